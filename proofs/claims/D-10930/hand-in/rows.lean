section
/-! the count of the ones, in plain naturals -/
def cp_M2 : Nat → Nat
  | 0 => 0
  | k + 1 => 3 + 16 * cp_M2 k
def cp_M4 : Nat → Nat
  | 0 => 0
  | k + 1 => 15 + 256 * cp_M4 k
theorem cp_M2_16 : cp_M2 16 = 3689348814741910323 := by rfl
theorem cp_M4_8 : cp_M4 8 = 1085102592571150095 := by rfl
theorem cp_and16 (x m : Nat) : x &&& (3 + 16 * m) = x % 4 + 16 * (x / 16 &&& m) := by
  have h1 : (x &&& (3 + 16 * m)) % 2 ^ 4 = x % 4 := by
    rw [Nat.and_mod_two_pow, show (3 + 16 * m) % 2 ^ 4 = 2 ^ 2 - 1 by omega, Nat.and_two_pow_sub_one_eq_mod]
    omega
  have h2 : (x &&& (3 + 16 * m)) / 2 ^ 4 = x / 16 &&& m := by
    rw [Nat.and_div_two_pow, show (3 + 16 * m) / 2 ^ 4 = m by omega, show x / 2 ^ 4 = x / 16 from rfl]
  generalize x &&& (3 + 16 * m) = t at h1 h2
  generalize x / 16 &&& m = s at h2
  omega
theorem cp_and256 (x m : Nat) : x &&& (15 + 256 * m) = x % 16 + 256 * (x / 256 &&& m) := by
  have h1 : (x &&& (15 + 256 * m)) % 2 ^ 8 = x % 16 := by
    rw [Nat.and_mod_two_pow, show (15 + 256 * m) % 2 ^ 8 = 2 ^ 4 - 1 by omega, Nat.and_two_pow_sub_one_eq_mod]
    omega
  have h2 : (x &&& (15 + 256 * m)) / 2 ^ 8 = x / 256 &&& m := by
    rw [Nat.and_div_two_pow, show (15 + 256 * m) / 2 ^ 8 = m by omega, show x / 2 ^ 8 = x / 256 from rfl]
  generalize x &&& (15 + 256 * m) = t at h1 h2
  generalize x / 256 &&& m = s at h2
  omega
def cp_A (n : Nat) : Nat := n - (n / 2 &&& 6148914691236517205)
def cp_B (k a : Nat) : Nat := (a &&& cp_M2 k) + (a / 4 &&& cp_M2 k)
def cp_d (a : Nat) : Nat := a % 4 + a / 4 % 4
theorem cp_d_le (a : Nat) : cp_d a ≤ 6 := by
  unfold cp_d
  omega
theorem cp_B_s (k a : Nat) : cp_B (k + 1) a = cp_d a + 16 * cp_B k (a / 16) := by
  unfold cp_B cp_d
  show (a &&& (3 + 16 * cp_M2 k)) + (a / 4 &&& (3 + 16 * cp_M2 k)) = _
  rw [cp_and16, cp_and16, show a / 4 / 16 = a / 16 / 4 by omega]
  omega
theorem cp_B_m (k a : Nat) : cp_B k a % 16 ≤ 6 := by
  cases k with
  | zero =>
    show ((a &&& 0) + (a / 4 &&& 0)) % 16 ≤ 6
    rw [Nat.and_zero, Nat.and_zero]
    decide
  | succ k =>
    rw [cp_B_s]
    have h := cp_d_le a
    omega
def cp_C (k b : Nat) : Nat := (b + b / 16) &&& cp_M4 k
theorem cp_C_a (x y r m : Nat) (hx : x ≤ 6) (hy : y ≤ 6) (hr : r % 16 ≤ 6) : (x + 16 * (y + 16 * r) + (x + 16 * (y + 16 * r)) / 16) &&& (15 + 256 * m) = x + y + 256 * ((r + r / 16) &&& m) := by
  have q : (x + 16 * (y + 16 * r)) / 16 = y + 16 * r := by omega
  have h1 : (x + 16 * (y + 16 * r) + (y + 16 * r)) % 16 = x + y := by omega
  have h2 : (x + 16 * (y + 16 * r) + (y + 16 * r)) / 256 = r + r / 16 := by omega
  rw [q, cp_and256, h1, h2]
theorem cp_C_s (k a : Nat) : cp_C (k + 1) (cp_B (2 * (k + 1)) a) = cp_d a + cp_d (a / 16) + 256 * cp_C k (cp_B (2 * k) (a / 256)) := by
  have e : cp_B (2 * (k + 1)) a = cp_d a + 16 * (cp_d (a / 16) + 16 * cp_B (2 * k) (a / 256)) := by
    rw [show 2 * (k + 1) = (2 * k + 1) + 1 by omega, cp_B_s, cp_B_s, show a / 16 / 16 = a / 256 by omega]
  rw [e]
  exact cp_C_a _ _ _ _ (cp_d_le a) (cp_d_le _) (cp_B_m _ _)
def cp_t (a : Nat) : Nat := cp_d a + cp_d (a / 16)
def cp_W : Nat → Nat → Nat
  | 0, _ => 0
  | k + 1, a => cp_t a + 256 * cp_W k (a / 256)
theorem cp_CW (k a : Nat) : cp_C k (cp_B (2 * k) a) = cp_W k a := by
  induction k generalizing a with
  | zero => exact Nat.and_zero _
  | succ k ih =>
    rw [cp_C_s, ih]
    rfl
theorem cp_t_le (a : Nat) : cp_t a ≤ 12 := by
  have h1 := cp_d_le a
  have h2 := cp_d_le (a / 16)
  unfold cp_t
  omega
theorem cp_t_0 {a : Nat} (h : cp_t a = 0) : a % 256 = 0 := by
  unfold cp_t cp_d at h
  have e1 : a / 16 = a / 4 / 4 := by omega
  rw [e1] at h
  have z1 : a % 4 = 0 := by omega
  have z2 : a / 4 % 4 = 0 := by omega
  have z3 : a / 4 / 4 % 4 = 0 := by omega
  have z4 : a / 4 / 4 / 4 % 4 = 0 := by omega
  clear h e1
  omega
theorem cp_D_g (q s l : Nat) (hs : s < 256) (hl : l < 72057594037927936) : (18446744073709551616 * q + (72057594037927936 * s + l)) % 18446744073709551616 / 72057594037927936 = s := by omega
theorem cp_D_a (c0 c1 c2 c3 c4 c5 c6 c7 : Nat) (h0 : c0 ≤ 12) (h1 : c1 ≤ 12) (h2 : c2 ≤ 12) (h3 : c3 ≤ 12) (h4 : c4 ≤ 12) (h5 : c5 ≤ 12) (h6 : c6 ≤ 12) (h7 : c7 ≤ 12) :
    (c0 + 256 * (c1 + 256 * (c2 + 256 * (c3 + 256 * (c4 + 256 * (c5 + 256 * (c6 + 256 * (c7 + 256 * 0)))))))) * 72340172838076673 % 18446744073709551616 / 72057594037927936 = c0 + c1 + c2 + c3 + c4 + c5 + c6 + c7 := by
  have e : (c0 + 256 * (c1 + 256 * (c2 + 256 * (c3 + 256 * (c4 + 256 * (c5 + 256 * (c6 + 256 * (c7 + 256 * 0)))))))) * 72340172838076673 = 18446744073709551616 * (1 * c1 + 257 * c2 + 65793 * c3 + 16843009 * c4 + 4311810305 * c5 + 1103823438081 * c6 + 282578800148737 * c7) + (72057594037927936 * (c0 + c1 + c2 + c3 + c4 + c5 + c6 + c7) + (282578800148737 * c0 + 282578800148736 * c1 + 282578800148480 * c2 + 282578800082944 * c3 + 282578783305728 * c4 + 282574488338432 * c5 + 281474976710656 * c6)) := by omega
  rw [e]
  exact cp_D_g _ _ _ (by omega) (by omega)
/-- the count of n: below 256, and no zero where n is none -/
def cp_P (n : Nat) : Nat := cp_C 8 (cp_B 16 (cp_A n)) * 72340172838076673 % 18446744073709551616 / 72057594037927936
theorem cp_P_lt (n : Nat) : cp_P n < 256 := by
  unfold cp_P
  generalize cp_C 8 (cp_B 16 (cp_A n)) * 72340172838076673 = t
  omega
theorem cp_A_le (n : Nat) : (n / 2 &&& 6148914691236517205) ≤ n := Nat.le_trans Nat.and_le_left (by omega)
theorem cp_A_0 {n : Nat} (h : cp_A n = 0) : n = 0 := by
  unfold cp_A at h
  have g : (n / 2 &&& 6148914691236517205) ≤ n / 2 := Nat.and_le_left
  generalize n / 2 &&& 6148914691236517205 = t at h g
  omega
theorem cp_W_0 {a : Nat} (ha : a < 18446744073709551616) (h : cp_W 8 a * 72340172838076673 % 18446744073709551616 / 72057594037927936 = 0) : a = 0 := by
  have e := cp_D_a (cp_t a) (cp_t (a / 256)) (cp_t (a / 256 / 256)) (cp_t (a / 256 / 256 / 256)) (cp_t (a / 256 / 256 / 256 / 256)) (cp_t (a / 256 / 256 / 256 / 256 / 256)) (cp_t (a / 256 / 256 / 256 / 256 / 256 / 256)) (cp_t (a / 256 / 256 / 256 / 256 / 256 / 256 / 256))
    (cp_t_le _) (cp_t_le _) (cp_t_le _) (cp_t_le _) (cp_t_le _) (cp_t_le _) (cp_t_le _) (cp_t_le _)
  have z := e.symm.trans h
  have z0 := cp_t_0 (a := a) (by omega)
  have z1 := cp_t_0 (a := a / 256) (by omega)
  have z2 := cp_t_0 (a := a / 256 / 256) (by omega)
  have z3 := cp_t_0 (a := a / 256 / 256 / 256) (by omega)
  have z4 := cp_t_0 (a := a / 256 / 256 / 256 / 256) (by omega)
  have z5 := cp_t_0 (a := a / 256 / 256 / 256 / 256 / 256) (by omega)
  have z6 := cp_t_0 (a := a / 256 / 256 / 256 / 256 / 256 / 256) (by omega)
  have z7 := cp_t_0 (a := a / 256 / 256 / 256 / 256 / 256 / 256 / 256) (by omega)
  clear e h z
  omega
theorem cp_P_pos {n : Nat} (hn : n < 18446744073709551616) (h : n ≠ 0) : 0 < cp_P n := by
  rcases Nat.eq_zero_or_pos (cp_P n) with z | z
  · refine absurd (cp_A_0 (cp_W_0 (a := cp_A n) ?_ ?_)) h
    · exact Nat.lt_of_le_of_lt (Nat.sub_le _ _) hn
    · rw [← cp_CW 8]
      exact z
  · exact z
end
section
/-! a long as an unsigned number, and by its digits -/
def cp_u (x : Int64) : Nat := x.toUInt64.toNat
theorem cp_u_lt (x : Int64) : cp_u x < 18446744073709551616 := x.toUInt64.toNat_lt
theorem cp_u_inj {x y : Int64} (h : cp_u x = cp_u y) : x = y := congrArg UInt64.toInt64 (UInt64.toNat_inj.mp h)
theorem cp_u_add (x y : Int64) : cp_u (x + y) = (cp_u x + cp_u y) % 18446744073709551616 := by
  show (x.toUInt64 + y.toUInt64).toNat = _
  exact UInt64.toNat_add _ _
theorem cp_u_mul (x y : Int64) : cp_u (x * y) = (cp_u x * cp_u y) % 18446744073709551616 := by
  show (x.toUInt64 * y.toUInt64).toNat = _
  exact UInt64.toNat_mul _ _
theorem cp_u_sub {x y : Int64} (h : cp_u y ≤ cp_u x) : cp_u (x - y) = cp_u x - cp_u y := by
  show (x.toUInt64 - y.toUInt64).toNat = _
  exact UInt64.toNat_sub_of_le _ _ (UInt64.le_iff_toNat_le.mpr h)
theorem cp_u_and (x y : Int64) : cp_u (x &&& y) = cp_u x &&& cp_u y := by
  show (x.toUInt64 &&& y.toUInt64).toNat = _
  exact UInt64.toNat_and _ _
theorem cp_u_shr (x : Int64) (s : UInt64) : cp_u (x.toUInt64 >>> s).toInt64 = cp_u x / 2 ^ (s.toNat % 64) := by
  show (x.toUInt64 >>> s).toNat = _
  rw [UInt64.toNat_shiftRight, Nat.shiftRight_eq_div_pow]
  rfl
theorem cp_u_i (x : Int64) : x.toInt32 = nI (cp_u x) := by
  have h : x = lN (cp_u x) := Int64.toBitVec_inj.mp (by
    show x.toBitVec = BitVec.ofNat 64 x.toBitVec.toNat
    simp)
  have g := lN_i (cp_u x)
  rw [← h] at g
  exact g
def cp_o1 (x : Int64) : Int64 := x - (((x.toUInt64 >>> ((1 : Int32).toInt64.toUInt64 &&& Int64.toUInt64 63)).toInt64) &&& 6148914691236517205)
def cp_o2 (x : Int64) : Int64 := (x &&& 3689348814741910323) + (((x.toUInt64 >>> ((2 : Int32).toInt64.toUInt64 &&& Int64.toUInt64 63)).toInt64) &&& 3689348814741910323)
def cp_o3 (x : Int64) : Int64 := (x + ((x.toUInt64 >>> ((4 : Int32).toInt64.toUInt64 &&& Int64.toUInt64 63)).toInt64)) &&& 1085102592571150095
def cp_o4 (x : Int64) : Int32 := (((x * 72340172838076673).toUInt64 >>> ((56 : Int32).toInt64.toUInt64 &&& Int64.toUInt64 63)).toInt64).toInt32
def cp_ones (x : Int64) : Int32 := cp_o4 (cp_o3 (cp_o2 (cp_o1 x)))
theorem cp_o1_u (x : Int64) : cp_u (cp_o1 x) = cp_A (cp_u x) := by
  have s : ((1 : Int32).toInt64.toUInt64 &&& Int64.toUInt64 63).toNat % 64 = 1 := by decide
  have k : cp_u 6148914691236517205 = 6148914691236517205 := by rfl
  have e : cp_u (((x.toUInt64 >>> ((1 : Int32).toInt64.toUInt64 &&& Int64.toUInt64 63)).toInt64) &&& 6148914691236517205) = (cp_u x / 2 &&& 6148914691236517205) := by
    rw [cp_u_and, cp_u_shr, s, k, Nat.pow_one]
  unfold cp_o1
  rw [cp_u_sub (by rw [e]; exact cp_A_le _), e]
  rfl
theorem cp_o2_a (x : Int64) : cp_u (x &&& 3689348814741910323) = (cp_u x &&& cp_M2 16) := by
  rw [cp_u_and, cp_M2_16]
  rfl
theorem cp_B_le (a : Nat) : cp_B 16 a ≤ 7378697629483820646 := by
  have h1 : (a &&& cp_M2 16) ≤ cp_M2 16 := Nat.and_le_right
  have h2 : (a / 4 &&& cp_M2 16) ≤ cp_M2 16 := Nat.and_le_right
  have k := cp_M2_16
  unfold cp_B
  omega
theorem cp_o2_u (x : Int64) : cp_u (cp_o2 x) = cp_B 16 (cp_u x) := by
  have s : ((2 : Int32).toInt64.toUInt64 &&& Int64.toUInt64 63).toNat % 64 = 2 := by decide
  have b := cp_B_le (cp_u x)
  unfold cp_o2
  rw [cp_u_add, cp_o2_a, cp_o2_a, cp_u_shr, s]
  show cp_B 16 (cp_u x) % 18446744073709551616 = _
  exact Nat.mod_eq_of_lt (by omega)
theorem cp_o3_u (x : Int64) (h : cp_u x ≤ 7378697629483820646) : cp_u (cp_o3 x) = cp_C 8 (cp_u x) := by
  have s : ((4 : Int32).toInt64.toUInt64 &&& Int64.toUInt64 63).toNat % 64 = 4 := by decide
  have k : cp_u 1085102592571150095 = cp_M4 8 := by rw [cp_M4_8]; rfl
  unfold cp_o3
  rw [cp_u_and, cp_u_add, cp_u_shr, s, k, show cp_u x / 2 ^ 4 = cp_u x / 16 from rfl, Nat.mod_eq_of_lt (by omega)]
  rfl
theorem cp_o4_u (x : Int64) : cp_o4 x = nI (cp_u x * 72340172838076673 % 18446744073709551616 / 72057594037927936) := by
  have s : ((56 : Int32).toInt64.toUInt64 &&& Int64.toUInt64 63).toNat % 64 = 56 := by decide
  have k : cp_u 72340172838076673 = 72340172838076673 := by rfl
  unfold cp_o4
  rw [cp_u_i, cp_u_shr, s, cp_u_mul, k]
theorem cp_ones_P (x : Int64) : cp_ones x = nI (cp_P (cp_u x)) := by
  unfold cp_ones
  rw [cp_o4_u, cp_o3_u _ (by rw [cp_o2_u]; exact cp_B_le _), cp_o2_u, cp_o1_u]
  rfl
theorem cp_ones_n (x : Int64) : ∃ j : Nat, j < 256 ∧ cp_ones x = nI j ∧ (x ≠ 0 → 0 < j) :=
  ⟨cp_P (cp_u x), cp_P_lt _, cp_ones_P x, fun h => cp_P_pos (cp_u_lt x) (fun z => h (cp_u_inj (z.trans rfl)))⟩
theorem cp_ones_0 : cp_ones 0 = 0 := by decide +kernel
/-- the one cell k -/
def cp_one (k : Nat) : Int64 := (1 : Int64) <<< ((nI k).toInt64 &&& 63)
theorem cp_ones_1 : ∀ k, k < 64 → cp_ones (cp_one k) = 1 := by decide +kernel
theorem cp_one_x : ∀ k, k < 64 → (0 : Int64) ^^^ cp_one k = cp_one k := by decide +kernel
theorem cp_one_b : ∀ k, k < 64 → ∀ i, i < 64 → ((((cp_one k).toUInt64 >>> ((nI i).toInt64.toUInt64 &&& Int64.toUInt64 63)).toInt64) &&& 1) = if i = k then 1 else 0 := by decide +kernel
/-! digits -/
def cp_bt (x : Int64) (i : Nat) : Bool := x.toBitVec.getLsbD i
theorem cp_bt_and (x y : Int64) (i : Nat) : cp_bt (x &&& y) i = (cp_bt x i && cp_bt y i) := by
  unfold cp_bt
  rw [Int64.toBitVec_and, BitVec.getLsbD_and]
theorem cp_bt_or (x y : Int64) (i : Nat) : cp_bt (x ||| y) i = (cp_bt x i || cp_bt y i) := by
  unfold cp_bt
  rw [Int64.toBitVec_or, BitVec.getLsbD_or]
theorem cp_bt_xor (x y : Int64) (i : Nat) : cp_bt (x ^^^ y) i = (cp_bt x i ^^ cp_bt y i) := by
  unfold cp_bt
  rw [Int64.toBitVec_xor, BitVec.getLsbD_xor]
theorem cp_bt_0 (i : Nat) : cp_bt 0 i = false := by
  show (0#64).getLsbD i = false
  exact BitVec.getLsbD_zero
theorem cp_bt_m1 : ∀ i, i < 64 → cp_bt (-1) i = true := by decide +kernel
theorem cp_bt_lt {x : Int64} {i : Nat} (h : cp_bt x i = true) : i < 64 := by
  rcases Nat.lt_or_ge i 64 with z | z
  · exact z
  · unfold cp_bt at h
    rw [BitVec.getLsbD_of_ge _ _ z] at h
    exact absurd h (by decide)
theorem cp_bt_ext {x y : Int64} (h : ∀ i, i < 64 → cp_bt x i = cp_bt y i) : x = y := Int64.toBitVec_inj.mp (BitVec.eq_of_getLsbD_eq h)
theorem cp_bt_neg {x : Int64} {i : Nat} (h : ∀ j, j < i → cp_bt x j = false) : cp_bt (-x) i = cp_bt x i := by
  unfold cp_bt at h ⊢
  rw [Int64.toBitVec_neg, BitVec.getLsbD_neg]
  have g : ¬ ∃ j, j < i ∧ x.toBitVec.getLsbD j = true := fun ⟨j, hj, t⟩ => by
    rw [h j hj] at t
    exact absurd t (by decide)
  rw [decide_eq_false g, Bool.and_false, Bool.xor_false]
theorem cp_nz {x : Int64} {i : Nat} (h : cp_bt x i = true) : x ≠ 0 := fun z => by
  rw [z, cp_bt_0] at h
  exact absurd h (by decide)
theorem cp_one_bt : ∀ k, k < 64 → cp_bt (cp_one k) k = true := by decide +kernel
/-- a set of cells within another -/
def cp_in (x y : Int64) : Prop := ∀ i, cp_bt x i = true → cp_bt y i = true
theorem cp_in_refl (x : Int64) : cp_in x x := fun _ h => h
theorem cp_in_trans {x y z : Int64} (h : cp_in x y) (g : cp_in y z) : cp_in x z := fun i a => g i (h i a)
theorem cp_in_or {x y z : Int64} (h : cp_in x y) : cp_in x (y ||| z) := fun i a => by
  rw [cp_bt_or, h i a, Bool.true_or]
theorem cp_in_and {x y z : Int64} (h : cp_in x y) (g : cp_in x z) : cp_in x (y &&& z) := fun i a => by
  rw [cp_bt_and, h i a, g i a, Bool.true_and]
theorem cp_and_r (x y : Int64) : cp_in (x &&& y) y := fun i a => by
  rw [cp_bt_and] at a
  exact (Bool.and_eq_true_iff.mp a).2
theorem cp_and_l (x y : Int64) : cp_in (x &&& y) x := fun i a => by
  rw [cp_bt_and] at a
  exact (Bool.and_eq_true_iff.mp a).1
theorem cp_in_eq {x y : Int64} (h : cp_in x y) (g : cp_in y x) : x = y := cp_bt_ext (fun i _ => by
  have a := h i
  have b := g i
  revert a b
  cases cp_bt x i <;> cases cp_bt y i <;> simp)
theorem cp_low {x : Int64} {i : Nat} (h : ∀ j, j < i → cp_bt x j = false) (hb : cp_bt x i = true) : cp_bt (x &&& -x) i = true := by
  rw [cp_bt_and, cp_bt_neg h, hb, Bool.true_and]
theorem cp_ex {x : Int64} (h : x ≠ 0) : ∃ i, cp_bt x i = true := by
  refine Classical.byContradiction (fun n => h (cp_bt_ext (fun i _ => ?_)))
  rw [cp_bt_0]
  cases e : cp_bt x i with
  | false => rfl
  | true => exact absurd ⟨i, e⟩ n
theorem cp_low_ex {x : Int64} (h : x ≠ 0) : ∃ i, cp_bt (x &&& -x) i = true := by
  obtain ⟨i, hi, hl⟩ := pk_least (fun i => cp_bt x i = true) (cp_ex h)
  refine ⟨i, cp_low (fun j hj => ?_) hi⟩
  have t := hl j hj
  cases e : cp_bt x j with
  | false => rfl
  | true => exact absurd e t
end
section
/-! the methods, one by one -/
def cp_IN (x : Int32) : Prop := ¬ x < 0 ∧ ¬ 63 < x
def cp_KN (m : Int32) : Prop := m = 4 ∨ m = 8
def cp_LI (y s : Int32) : Prop := ¬ y < 0 ∧ ¬ 7 < y ∧ ¬ s < 0 ∧ ¬ 255 < s
def cp_SP (m n : Int32) : Prop := cp_KN m ∧ ¬ n < 0 ∧ ¬ 64 < n
theorem cp_IN_n {x : Int32} (h : cp_IN x) : ∃ k : Nat, k < 64 ∧ x = nI k := by
  obtain ⟨k, hk, e⟩ := nI_of2 (x := x) (M := 63) (n := 63) (by decide) h.1 (Int32.not_lt.mp h.2)
  exact ⟨k, by omega, e⟩
theorem cp_i64 (x : Int32) : x < 64 ↔ ¬ 63 < x := by
  rw [Int32.lt_iff_toInt_lt, Int32.lt_iff_toInt_lt, show (64 : Int32).toInt = 64 by decide, show (63 : Int32).toInt = 63 by decide]
  omega
theorem cp_i8 (x : Int32) : 8 ≤ x ↔ 7 < x := by
  rw [Int32.le_iff_toInt_le, Int32.lt_iff_toInt_lt, show (8 : Int32).toInt = 8 by decide, show (7 : Int32).toInt = 7 by decide]
  omega
theorem cp_badCell {post : Int32 → Prop} {u : St2} {c : Int32} (h : cp_IN c → post 0) (g : ¬ cp_IN c → post 1) : wpX_badCell post u c := by
  obtain ⟨f, a⟩ := u
  exact br_c (fun z => g (fun t => t.1 z)) (fun z => br_c (fun y => h ⟨z, (cp_i64 c).mp y⟩) (fun y => g (fun t => y ((cp_i64 c).mpr t.2))))
theorem cp_badMode {post : Int32 → Prop} {u : St2} {m : Int32} (h : cp_KN m → post 0) (g : ¬ cp_KN m → post 1) : wpX_badMode post u m := by
  obtain ⟨f, a⟩ := u
  exact br_c (fun z => h (Or.inl z)) (fun z => br_c (fun y => h (Or.inr y)) (fun y => g (fun t => t.elim z y)))
theorem cp_onesW {post : Int32 → Prop} {u : St2} {x : Int64} (H : post (cp_ones x)) : wpX_ones post u x := by
  obtain ⟨f, a⟩ := u
  intro x1 h1 x2 h2 x3 h3
  subst h1 h2 h3
  exact H
theorem cp_grown {post : Int64 → Prop} {u : St2} {f : Int64} {m : Int32} (H : ∀ g, cp_in f g → post g) : wpX_grown post u f m := by
  obtain ⟨o, a⟩ := u
  intro x hx
  have t : cp_in f x := by
    rw [hx]
    exact cp_in_or (cp_in_or (cp_in_refl f))
  exact br_c (fun _ => H _ (cp_in_or (cp_in_or t))) (fun _ => H _ (cp_in_or (cp_in_or t)))
theorem cp_fl {post : Int64 → Prop} {w : Int64} {m : Int32} {o : Int64} {a : Nat → Int32} (s : Int64) (H : ∀ y, cp_in s y → cp_in y w → post y) :
    ∀ (n : Nat) (x : Int64) (b : Int32) (k : Nat), 64 - k < n → k ≤ 64 → cp_in s x → cp_in x w → wX_flooded_11 post w m o a n x b (nI k) := by
  intro n
  induction n with
  | zero => exact fun x b k h => absurd h (by omega)
  | succ n ih =>
    intro x b k hn hk h1 h2
    refine pk_le 64 k (fun _ => H x h1 h2) (fun hlt => br_c (fun _ => H x h1 h2) (fun _ => cp_grown (fun g hg => nm_e ?_)))
    have t : ∀ b', wX_flooded_11 post w m o a n (g &&& w) b' (nI (k + 1)) := fun b' => ih _ b' (k + 1) (by omega) (by omega) (cp_in_and (cp_in_trans h1 hg) (cp_in_trans h1 h2)) (cp_and_r g w)
    exact br_c (fun _ => nm_r (nI_1 k) (t 0)) (fun _ => nm_r (nI_1 k) (t 1))
theorem cp_flooded {post : Int64 → Prop} {u : St2} {s w : Int64} {m : Int32} (H : ∀ y, cp_in (s &&& w) y → cp_in y w → post y) : wpX_flooded post u s w m := by
  obtain ⟨o, a⟩ := u
  exact nm_e ⟨65, cp_fl (s &&& w) H 65 (s &&& w) 1 0 (by omega) (by omega) (cp_in_refl _) (cp_and_r s w)⟩
/-! drawing -/
theorem cp_turn {post : Int32 → St2 → Prop} {a : Nat → Int32} {c : Int32} (h : ∀ k, k < 64 → c = nI k → post 1 (cp_one k, a)) (g : ¬ cp_IN c → post (-1) (0, a)) : wpX_turn post (0, a) c := by
  unfold wpX_turn
  dsimp only
  refine cp_badCell (fun z => br_t rfl ?_) (fun z => br_f (by decide) (g z))
  obtain ⟨k, hk, e⟩ := cp_IN_n z
  subst e
  refine nm_r (cp_one_x k hk) ?_
  have b := cp_one_b k hk k hk
  rw [if_pos rfl] at b
  have o : (1 : Int64).toInt32 = 1 := by decide
  rw [b, o]
  exact h k hk rfl
theorem cp_isOff_out {post : Int32 → Prop} {u : St2} {c : Int32} (z : ¬ cp_IN c) (H : post 1) : wpX_isOff post u c := by
  obtain ⟨o, a⟩ := u
  unfold wpX_isOff
  dsimp only
  exact cp_badCell (fun y => absurd y z) (fun _ => br_f (by decide) H)
theorem cp_isOff_in {post : Int32 → Prop} {a : Nat → Int32} {k : Nat} (hk : k < 64) (H : post 0) : wpX_isOff post (cp_one k, a) (nI k) := by
  unfold wpX_isOff
  dsimp only
  have b := cp_one_b k hk k hk
  rw [if_pos rfl] at b
  refine cp_badCell (fun y => br_t rfl ?_) (fun z => absurd ⟨nI_pos (by omega), Int32.not_lt.mpr (nI_le (b := 63) (by omega) (by decide))⟩ z)
  rw [b]
  exact br_f (by decide) H
theorem cp_size_in {post : Int32 → Prop} {a : Nat → Int32} {m : Int32} {k : Nat} (hk : k < 64) (h : cp_KN m → post 1) (g : ¬ cp_KN m → post (-1)) : wpX_size post (cp_one k, a) m (nI k) := by
  unfold wpX_size
  dsimp only
  refine cp_badMode (fun z => br_t rfl (cp_isOff_in hk (br_t rfl (cp_flooded (fun y h1 h2 => cp_onesW ?_))))) (fun z => br_f (by decide) (g z))
  have e : y = cp_one k := cp_in_eq h2 (cp_in_trans (cp_in_and (cp_in_refl _) (cp_in_refl _)) h1)
  rw [e, cp_ones_1 k hk]
  exact h z
theorem cp_size_out {post : Int32 → Prop} {u : St2} {m c : Int32} (hc : ¬ cp_IN c) (h : cp_KN m → post (-4)) (g : ¬ cp_KN m → post (-1)) : wpX_size post u m c := by
  obtain ⟨o, a⟩ := u
  unfold wpX_size
  dsimp only
  exact cp_badMode (fun z => br_t rfl (cp_isOff_out hc (br_f (by decide) (h z)))) (fun z => br_f (by decide) (g z))
end
section
/-! the sweeps: with one cell on, its distance is 1 and all others 0 -/
def cp_at (k : Nat) : Nat := 10 * (k / 8) + k % 8 + 11
theorem cp_at_i : ∀ k, k < 64 → ((10 * (nI k >>> ((3 : Int32) &&& 31))) + (nI k &&& 7)) + 11 = nI (cp_at k) := by decide +kernel
theorem cp_at_le {k : Nat} (h : k < 64) : 11 ≤ cp_at k ∧ cp_at k ≤ 88 := by
  unfold cp_at
  omega
theorem cp_at_inj {i k : Nat} (h : cp_at i = cp_at k) : i = k := by
  unfold cp_at at h
  omega
/-- the picture: behind the sweep's cell i, with the cell c on -/
def cp_far (c i : Nat) (s : Nat → Int32) : Prop := ∀ j, j < 100 → s j = if c < i ∧ j = cp_at c then 1 else 0
theorem cp_far_01 {c i : Nat} {s : Nat → Int32} (h : cp_far c i s) {j : Nat} (hj : j < 100) : s j = 0 ∨ s j = 1 := by
  rw [h j hj]
  by_cases e : c < i ∧ j = cp_at c
  · rw [if_pos e]
    exact Or.inr rfl
  · rw [if_neg e]
    exact Or.inl rfl
theorem cp_far_0 {c i : Nat} {s : Nat → Int32} (h : cp_far c i s) (hc : i ≤ c) {j : Nat} (hj : j < 100) : s j = 0 := by
  rw [h j hj, if_neg (by omega)]
theorem cp_far_s1 {c : Nat} {s : Nat → Int32} {v : Int32} (hv : v = 1) (h : cp_far c c s) : cp_far c (c + 1) (upd s (cp_at c) v) := by
  intro j hj
  by_cases e : j = cp_at c
  · rw [e, pk_us, if_pos ⟨by omega, rfl⟩, hv]
  · rw [pk_un e, h j hj, if_neg (fun z => e z.2), if_neg (fun z => e z.2)]
theorem cp_far_s0 {c i : Nat} {s : Nat → Int32} (h : cp_far c i s) (hi : i ≠ c) : cp_far c (i + 1) (upd s (cp_at i) 0) := by
  intro j hj
  by_cases e : j = cp_at i
  · rw [e, pk_us, if_neg (fun z => hi (cp_at_inj z.2))]
  · rw [pk_un e, h j hj]
    by_cases g : c < i ∧ j = cp_at c
    · rw [if_pos g, if_pos ⟨by omega, g.2⟩]
    · rw [if_neg g, if_neg (fun z => g ⟨by omega, z.2⟩)]
theorem cp_far_id {c i k : Nat} {s : Nat → Int32} (h : cp_far c i s) : cp_far c i (upd s k (s k)) := by
  intro j hj
  by_cases e : j = k
  · rw [e, pk_us, ← e]
    exact h j hj
  · rw [pk_un e]
    exact h j hj
theorem cp_least_00 {post : Int32 → Prop} {u : St2} {x y : Int32} (hx : x = 0) (hy : y = 0) (H : post 0) : wpX_least post u x y 64 := by
  obtain ⟨o, a⟩ := u
  subst hx hy
  exact br_t (by decide) (br_f (by decide) H)
theorem cp_least_01 {post : Int32 → Prop} {u : St2} {x y : Int32} (hx : x = 0 ∨ x = 1) (hy : y = 0 ∨ y = 1) (H : ∀ r, r = 0 ∨ r = 1 → post r) : wpX_least post u x y 64 := by
  obtain ⟨o, a⟩ := u
  have n : ∀ z : Int32, z = 0 ∨ z = 1 → ¬ 64 ≤ z := fun z hz => by
    rcases hz with e | e <;> subst e <;> decide
  exact br_c (fun _ => br_f (n y hy) (H y hy)) (fun _ => br_f (n x hx) (H x hx))
theorem cp_le_12 {x r : Int32} (hx : x = 0 ∨ x = 1) (hr : r = 0 ∨ r = 1) : x ≤ 1 + r := by
  rcases hx with e | e <;> subst e <;> rcases hr with g | g <;> subst g <;> decide
theorem cp_s111 {post : St2 → Prop} {c : Nat} {f : Int64} (H : ∀ s, cp_far c 64 s → post (f, s)) (s : Nat → Int32) (h : cp_far c 64 s) : ∃ n, wX_sweep_111 post f n 63 s := by
  have e : (63 : Int32) = nI 64 + (-1) := by decide
  rw [e]
  refine ⟨65, pk_loopD (fun n i s => wX_sweep_111 post f n (nI i + (-1)) s) (fun i s => i ≤ 64 ∧ cp_far c 64 s) ?_ ?_ 64 s ⟨by omega, h⟩⟩
  · intro n s hs
    exact br_t (by decide) (H s hs.2)
  · intro n i s hs hw
    have hi : i < 64 := hs.1
    have b := cp_at_le hi
    have w : ∀ s', cp_far c 64 s' → wX_sweep_111 post f n (nI i + (-1)) s' := fun s' g => hw s' ⟨by omega, g⟩
    show wX_sweep_111 post f (n + 1) (nI (i + 1) + (-1)) s
    rw [pk_m1]
    refine br_f (nI_pos (by omega)) (nm_r (cp_at_i i hi) ?_)
    have e1 : nI (cp_at i) + 1 = nI (cp_at i + 1) := nI_1 _
    have e10 : nI (cp_at i) + 10 = nI (cp_at i + 10) := nI_add _ 10
    rw [e1, e10, nI_clamp (show cp_at i + 1 < 2 ^ 31 by omega), nI_clamp (show cp_at i + 10 < 2 ^ 31 by omega), nI_clamp (show cp_at i < 2 ^ 31 by omega)]
    have v : vp_in (nI (cp_at i)) 100 := vp_in_nI (by omega) (by omega)
    refine ⟨vp_in_nI (by omega) (by omega), vp_in_nI (by omega) (by omega), cp_least_01 (cp_far_01 hs.2 (by omega)) (cp_far_01 hs.2 (by omega)) (fun r hr => nm_e ⟨v, br_t (cp_le_12 (cp_far_01 hs.2 (by omega)) hr) ⟨v, v, nm_e (nm_e (w _ (cp_far_id hs.2)))⟩⟩)⟩
theorem cp_s23 {post : St2 → Prop} {c : Nat} (hc : c < 64) (H : ∀ s, cp_far c 64 s → post (cp_one c, s)) (s : Nat → Int32) (h : cp_far c 0 s) : ∃ n, wX_sweep_23 post (cp_one c) n 0 s := by
  refine pk_loop (fun n i s => wX_sweep_23 post (cp_one c) n (nI i) s) (fun i s => cp_far c i s) 64 0 s (by omega) h ?_ ?_
  · intro n s hs
    exact br_t (by decide) (cp_s111 H s hs)
  · intro n i s hi hs hw
    have b := cp_at_le hi
    refine pk_le 64 i (fun z => absurd z (by omega)) (fun _ => nm_r (cp_at_i i hi) ?_)
    rw [cp_one_b c hc i hi]
    have v : vp_in (nI (cp_at i)) 100 := vp_in_nI (by omega) (by omega)
    by_cases e : i = c
    · rw [if_pos e]
      refine br_t rfl ?_
      subst e
      have e1 : nI (cp_at i) - 1 = nI (cp_at i - 1) := pk_sub (b := 1) (by omega)
      have e10 : nI (cp_at i) - 10 = nI (cp_at i - 10) := pk_sub (b := 10) (by omega)
      unfold wX_sweep_62
      rw [e1, e10, nI_clamp (show cp_at i - 1 < 2 ^ 31 by omega), nI_clamp (show cp_at i - 10 < 2 ^ 31 by omega), nI_clamp (show cp_at i < 2 ^ 31 by omega)]
      exact br_f (by decide) ⟨vp_in_nI (by omega) (by omega), vp_in_nI (by omega) (by omega), cp_least_00 (cp_far_0 hs (Nat.le_refl _) (by omega)) (cp_far_0 hs (Nat.le_refl _) (by omega)) ⟨v, nm_e (nm_r (nI_1 i) (hw _ (cp_far_s1 (by decide) hs)))⟩⟩
    · rw [if_neg e]
      refine br_f (by decide) ?_
      unfold wX_sweep_62
      rw [nI_clamp (show cp_at i < 2 ^ 31 by omega)]
      exact br_t rfl ⟨v, nm_e (nm_r (nI_1 i) (hw _ (cp_far_s0 hs e)))⟩
theorem cp_sweep {post : St2 → Prop} {c : Nat} {a : Nat → Int32} (hc : c < 64) (H : ∀ s, cp_far c 64 s → post (cp_one c, s)) : wpX_sweep post (cp_one c, a) := by
  refine pk_loop (fun n i s => wX_sweep_2 post (cp_one c) n (nI i) s) (fun i s => ∀ j, j < i → s j = 0) 100 0 a (by omega) (fun j hj => absurd hj (by omega)) ?_ ?_
  · intro n s hs
    exact br_t (by decide) (cp_s23 hc H s (fun j hj => by rw [hs j hj, if_neg (by omega)]))
  · intro n i s hi hs hw
    refine pk_le 100 i (fun z => absurd z (by omega)) (fun _ => ⟨vp_in_nI hi (by omega), nm_e (nm_r (nI_1 i) (hw _ (fun j hj => ?_)))⟩)
    rw [nI_clamp (show i < 2 ^ 31 by omega)]
    by_cases e : j = i
    · rw [e, pk_us]
    · rw [pk_un e]
      exact hs j (by omega)
theorem cp_depth_in {post : Int32 → St2 → Prop} {a : Nat → Int32} {k : Nat} (hk : k < 64) (H : ∀ s, post 1 (cp_one k, s)) : wpX_depth post (cp_one k, a) (nI k) := by
  unfold wpX_depth
  dsimp only
  have b := cp_at_le hk
  refine cp_badCell (fun y => br_t rfl (cp_sweep hk (fun s hs => ?_))) (fun z => absurd ⟨nI_pos (by omega), Int32.not_lt.mpr (nI_le (b := 63) (by omega) (by decide))⟩ z)
  dsimp only
  rw [cp_at_i k hk, nI_clamp (show cp_at k < 2 ^ 31 by omega), hs (cp_at k) (by omega), if_pos ⟨hk, rfl⟩]
  exact ⟨vp_in_nI (by omega) (by omega), H s⟩
theorem cp_depth_out {post : Int32 → St2 → Prop} {u : St2} {c : Int32} (hc : ¬ cp_IN c) (H : post (-1) u) : wpX_depth post u c := by
  obtain ⟨o, a⟩ := u
  unfold wpX_depth
  dsimp only
  exact cp_badCell (fun y => absurd y hc) (fun _ => br_f (by decide) H)
end
section
/-! a line; the pieces below a size go -/
def cp_old (o : Int64) (y : Int32) : Int32 := (((o.toUInt64 >>> ((8 * y).toInt64.toUInt64 &&& Int64.toUInt64 63)).toInt64) &&& 255).toInt32
def cp_msk (y : Int32) : Int64 := ((255 : Int64) <<< ((8 * y).toInt64 &&& 63)) ^^^ (-1)
def cp_new (o : Int64) (y s : Int32) : Int64 := (o &&& cp_msk y) ||| (s.toInt64 <<< ((8 * y).toInt64 &&& 63))
theorem cp_old_1 : ∀ k, k < 64 → ∀ y, y < 8 → cp_old (cp_one k) (nI y) = if k / 8 = y then (1 : Int32) <<< ((nI k &&& 7) &&& 31) else 0 := by decide +kernel
theorem cp_old_0 : ∀ y, y < 8 → cp_old 0 (nI y) = 0 := by decide +kernel
theorem cp_keep : ∀ k, k < 64 → ∀ y, y < 8 → k / 8 ≠ y → cp_one k &&& cp_msk (nI y) = cp_one k := by decide +kernel
theorem cp_new_nz {k y : Nat} {s : Int32} (hk : k < 64) (hy : y < 8) (h : k / 8 ≠ y) : cp_new (cp_one k) (nI y) s ≠ 0 := by
  refine cp_nz (i := k) ?_
  unfold cp_new
  rw [cp_keep k hk y hy h, cp_bt_or, cp_one_bt k hk, Bool.true_or]
theorem cp_line {post : Int32 → St2 → Prop} {o : Int64} {a : Nat → Int32} {y s : Int32} (h : cp_LI y s → post (cp_old o y) (cp_new o y s, a)) (g : ¬ cp_LI y s → post (-1) (o, a)) : wpX_line post (o, a) y s := by
  refine br_c (fun z => g (fun t => t.1 z)) (fun z1 => br_c (fun z => g (fun t => t.2.1 ((cp_i8 y).mp z))) (fun z2 => br_c (fun z => g (fun t => t.2.2.1 z)) (fun z3 => br_c (fun z4 => ?_) (fun z => g (fun t => z (Int32.not_lt.mp t.2.2.2))))))
  have t := h ⟨z1, fun q => z2 ((cp_i8 y).mpr q), z3, Int32.not_lt.mpr z4⟩
  intro x1 h1 x2 h2 x3 h3
  subst h1 h2 h3
  exact t
theorem cp_93 {post : Int32 → St2 → Prop} {x o : Int64} {a : Nat → Int32} (H : post (cp_ones (o ^^^ x)) (x, a)) : wX_clear_93 post x o a := by
  unfold wX_clear_93 wpX_change
  dsimp only
  exact cp_onesW H
/-- one round: the piece y of the rest r goes -/
theorem cp_cut {r y : Int64} {i : Nat} (h : ∀ j, j < i → cp_bt r j = false) (hy : cp_in ((r &&& -r) &&& r) y) : ∀ j, j < i + 1 → cp_bt (r &&& (y ^^^ (-1))) j = false := by
  intro j hj
  rw [cp_bt_and]
  cases e : cp_bt r j with
  | false => rfl
  | true =>
    have ji : j = i := by
      rcases Nat.lt_or_ge j i with z | z
      · rw [h j z] at e
        exact absurd e (by decide)
      · omega
    have t : cp_bt y j = true := hy j (by
      rw [cp_bt_and, cp_low (by rw [ji]; exact h) e, e]
      rfl)
    rw [cp_bt_xor, t, cp_bt_m1 j (cp_bt_lt e)]
    rfl
theorem cp_add {o r q y : Int64} (h : q ||| r = o) (hy : cp_in y r) : (q ||| y) ||| (r &&& (y ^^^ (-1))) = o := by
  refine cp_bt_ext (fun i hi => ?_)
  rw [← h, cp_bt_or, cp_bt_or, cp_bt_or, cp_bt_and, cp_bt_xor, cp_bt_m1 i hi]
  have t := hy i
  revert t
  cases cp_bt q i <;> cases cp_bt y i <;> cases cp_bt r i <;> simp
theorem cp_all {r : Int64} (h : ∀ j, j < 64 → cp_bt r j = false) : r = 0 := cp_bt_ext (fun i hi => by rw [h i hi, cp_bt_0])
theorem cp_or_0 {q o : Int64} (h : q ||| 0 = o) : q = o := by
  refine cp_bt_ext (fun i _ => ?_)
  rw [← h, cp_bt_or, cp_bt_0, Bool.or_false]
theorem cp_31 {post : Int32 → St2 → Prop} {m : Int32} {c : Nat} (hc : c ≤ 64) {o : Int64} {a : Nat → Int32} (H : ∀ q, (c ≤ 1 → q = o) → post (cp_ones (o ^^^ q)) (q, a)) : ∃ n, wX_clear_31 post m (nI c) o a n o 0 0 := by
  refine pk_loop (σ := Int64 × Int64) (fun n i s => wX_clear_31 post m (nI c) o a n s.1 s.2 (nI i)) (fun i s => (∀ j, j < i → cp_bt s.1 j = false) ∧ (c ≤ 1 → s.2 ||| s.1 = o)) 64 0 (o, 0) (by omega) ⟨fun j hj => absurd hj (by omega), fun _ => ?_⟩ ?_ ?_
  · refine cp_bt_ext (fun i _ => ?_)
    show cp_bt (0 ||| o) i = _
    rw [cp_bt_or, cp_bt_0, Bool.false_or]
  · intro n s hs
    obtain ⟨r, q⟩ := s
    have z : r = 0 := cp_all hs.1
    refine br_t (by decide) (cp_93 (H q (fun g => ?_)))
    have t := hs.2 g
    dsimp only at t
    rw [z] at t
    exact cp_or_0 t
  · intro n i s hi hs hw
    obtain ⟨r, q⟩ := s
    dsimp only at hs
    show wX_clear_31 post m (nI c) o a (n + 1) r q (nI i)
    refine pk_le 64 i (fun z => absurd z (by omega)) (fun _ => br_c (fun z => cp_93 (H q (fun g => ?_))) (fun z => cp_flooded (fun y h1 h2 => nm_e (cp_onesW ?_))))
    · have t := hs.2 g
      rw [z] at t
      exact cp_or_0 t
    · have w : ∀ q', (c ≤ 1 → q' ||| (r &&& (y ^^^ (-1))) = o) → wX_clear_31 post m (nI c) o a n (r &&& (y ^^^ (-1))) q' (nI (i + 1)) := fun q' g => hw (r &&& (y ^^^ (-1)), q') ⟨cp_cut hs.1 h1, g⟩
      obtain ⟨p, hp⟩ := cp_low_ex z
      have yz : y ≠ 0 := cp_nz (i := p) (h1 p (by rw [cp_bt_and, hp, cp_and_l _ _ p hp]; rfl))
      obtain ⟨j, hj, ej, pj⟩ := cp_ones_n y
      rw [ej]
      refine pk_lt j c (fun lt => nm_r (nI_1 i) (w q (fun g => absurd (pj yz) (by omega)))) (fun ge => nm_e (nm_r (nI_1 i) (w _ (fun g => cp_add (hs.2 g) h2))))
theorem cp_clear {post : Int32 → St2 → Prop} {o : Int64} {a : Nat → Int32} {m n : Int32} (h : cp_SP m n → ∀ q, (¬ 1 < n → q = o) → post (cp_ones (o ^^^ q)) (q, a)) (g : ¬ cp_SP m n → post (-1) (o, a)) : wpX_clear post (o, a) m n := by
  unfold wpX_clear
  dsimp only
  refine cp_badMode (fun k => br_t rfl (br_c (fun z => g (fun t => t.2.1 z)) (fun z1 => br_c (fun z2 => ?_) (fun z => g (fun t => z (Int32.not_lt.mp t.2.2)))))) (fun k => br_f (by decide) (g (fun t => k t.1)))
  obtain ⟨c, hc, e⟩ := nI_of2 (x := n) (M := 64) (n := 64) (by decide) z1 z2
  have t := h ⟨k, z1, Int32.not_lt.mpr z2⟩
  subst e
  exact cp_31 hc (fun q hq => t q (fun y => hq (by
    rcases Nat.lt_or_ge 1 c with l | l
    · exact absurd (nI_lt l (by omega)) y
    · exact l)))
theorem cp_cells {post : Int32 → Prop} {o : Int64} {a : Nat → Int32} (H : post (cp_ones o)) : wpX_cells post (o, a) := by
  unfold wpX_cells
  dsimp only
  exact cp_onesW H
end
section
/-! the law's checks, one behind another -/
theorem cp_309 {post : Int32 → St0 → Prop} {mc ms : Nat} {x4 x10 x16 : Int32} {kc ks : Nat} (h13 : ¬ x16 = 0 → ¬ 1 < x4 → x10 = 0) (H : post 1 ()) : wL_lawOf_309 post mc ms x4 x10 x16 kc ks :=
  br_c (fun _ => H) (fun a => br_c (fun _ => H) (fun b => br_t (h13 a b) H))
theorem cp_165 {post : Int32 → St0 → Prop} {mc ms : Nat} {x0 x4 x6 x7 x8 x9 x10 x11 x12 x13 x14 x15 x16 : Int32} {kc ks : Nat}
    (h6 : (x12 = 0 → x6 = -1) ∧ (¬ x12 = 0 → x6 = 1))
    (h7 : (x13 = 0 → x7 = -1) ∧ (¬ x13 = 0 → x12 = 0 → x7 = -4) ∧ (¬ x13 = 0 → ¬ x12 = 0 → x7 = 1))
    (h8 : (x12 = 0 → x8 = -1) ∧ (¬ x12 = 0 → x8 = 1))
    (h9 : (x14 = 0 → x9 = -1) ∧ (¬ x14 = 0 → x15 = 0 → x9 = 0) ∧ (¬ x14 = 0 → ¬ x15 = 0 → x9 = (1 : Int32) <<< ((x0 &&& 7) &&& 31)))
    (h10 : (x16 = 0 → x10 = -1) ∧ (¬ x16 = 0 → ¬ x10 < 0))
    (h11 : ¬ x11 < 0)
    (h12 : ¬ x16 = 0 → ¬ x4 < 2 → ¬ x11 + x10 < 0 ∧ (¬ x12 = 0 → x15 = 0 → ¬ x11 + x10 < 1))
    (h13 : ¬ x16 = 0 → ¬ 1 < x4 → x10 = 0)
    (H : post 1 ()) : wL_lawOf_165 post mc ms x0 x4 x6 x7 x8 x9 x10 x11 x12 x13 x14 x15 x16 kc ks := by
  have t309 : wL_lawOf_309 post mc ms x4 x10 x16 kc ks := cp_309 h13 H
  have t306 : ∀ z0 z1, ¬ z1 < z0 → wL_lawOf_306 post mc ms x4 x10 x16 z0 z1 kc ks := fun z0 z1 h => br_f h t309
  have t305 : ∀ z1, ¬ z1 < 0 → wL_lawOf_305 post mc ms x4 x10 x16 z1 kc ks := fun z1 h => t306 0 z1 h
  have t270 : wL_lawOf_270 post mc ms x4 x10 x11 x12 x15 x16 kc ks := br_f h11 (br_c (fun _ => t309) (fun a => br_c (fun _ => t309) (fun b => br_c (fun _ => t305 _ (h12 a b).1) (fun c => br_c (fun d => t306 _ _ ((h12 a b).2 c d)) (fun _ => t305 _ (h12 a b).1)))))
  have t248 : ∀ z0, x9 = z0 → wL_lawOf_248 post mc ms x4 x10 x11 x12 x15 x16 z0 x9 kc ks := fun z0 e => br_t e (br_c (fun a => br_t (h10.1 a) t270) (fun a => br_f (h10.2 a) t270))
  have t219 : ∀ z0, x8 = z0 → wL_lawOf_219 post mc ms x0 x4 x9 x10 x11 x12 x14 x15 x16 z0 x8 kc ks := fun z0 e => br_t e (br_c (fun a => t248 _ (h9.1 a)) (fun a => br_c (fun b => t248 _ (h9.2.1 a b)) (fun b => t248 _ (h9.2.2 a b))))
  have t204 : ∀ z0, x7 = z0 → wL_lawOf_204 post mc ms x0 x4 x8 x9 x10 x11 x12 x14 x15 x16 z0 x7 kc ks := fun z0 e => br_t e (br_c (fun a => t219 _ (h8.1 a)) (fun a => t219 _ (h8.2 a)))
  have t179 : ∀ z0, x6 = z0 → wL_lawOf_179 post mc ms x0 x4 x7 x8 x9 x10 x11 x12 x13 x14 x15 x16 z0 x6 kc ks := fun z0 e => br_t e (br_c (fun a => t204 _ (h7.1 a)) (fun a => br_c (fun b => t204 _ (h7.2.1 a b)) (fun b => t204 _ (h7.2.2 a b))))
  exact br_c (fun a => t179 _ (h6.1 a)) (fun a => t179 _ (h6.2 a))
theorem cp_f1 {P : Prop} (p : P) : (1 : Int32) = 0 ↔ ¬ P := ⟨fun z => absurd z (by decide), fun z => absurd p z⟩
theorem cp_f0 {P : Prop} (p : ¬ P) : (0 : Int32) = 0 ↔ ¬ P := ⟨fun _ => p, fun _ => rfl⟩
theorem cp_fy {P : Prop} {x : Int32} (f : x = 0 ↔ ¬ P) (n : ¬ x = 0) : P := Classical.byContradiction (fun q => n (f.mpr q))
theorem cp_75 {post : Int32 → St0 → Prop} {mc ms : Nat} {x0 x1 x2 x3 x4 x6 x7 x8 x9 x10 x11 : Int32} {kc ks : Nat} {IN : Prop} (x12 : Int32) (f12 : x12 = 0 ↔ ¬ IN)
    (T : ∀ x13 x14 x15 x16 : Int32, (x13 = 0 ↔ ¬ cp_KN x1) → (x14 = 0 ↔ ¬ cp_LI x2 x3) → (x15 = 0 ↔ ¬ (IN ∧ x0 / 8 = x2)) → (x16 = 0 ↔ ¬ cp_SP x1 x4) → wL_lawOf_165 post mc ms x0 x4 x6 x7 x8 x9 x10 x11 x12 x13 x14 x15 x16 kc ks) :
    wL_lawOf_75 post mc ms x0 x1 x2 x3 x4 x6 x7 x8 x9 x10 x11 x12 kc ks := by
  have s141 : ∀ x13 x14 x15 : Int32, (x13 = 0 ↔ ¬ cp_KN x1) → (x14 = 0 ↔ ¬ cp_LI x2 x3) → (x15 = 0 ↔ ¬ (IN ∧ x0 / 8 = x2)) → wL_lawOf_141 post mc ms x0 x4 x6 x7 x8 x9 x10 x11 x12 x13 x14 x15 kc ks := fun x13 x14 x15 f13 f14 f15 =>
    br_c (fun a => T x13 x14 x15 0 f13 f14 f15 (cp_f0 (fun t => f13.mp a t.1))) (fun a => br_c (fun b => T x13 x14 x15 0 f13 f14 f15 (cp_f0 (fun t => t.2.1 b))) (fun b => br_c (fun c => T x13 x14 x15 0 f13 f14 f15 (cp_f0 (fun t => t.2.2 c))) (fun c => T x13 x14 x15 1 f13 f14 f15 (cp_f1 ⟨cp_fy f13 a, b, c⟩))))
  have s121 : ∀ x13 x14 : Int32, (x13 = 0 ↔ ¬ cp_KN x1) → (x14 = 0 ↔ ¬ cp_LI x2 x3) → wL_lawOf_121 post mc ms x0 x2 x4 x6 x7 x8 x9 x10 x11 x12 x13 x14 kc ks := fun x13 x14 f13 f14 =>
    br_c (fun a => s141 x13 x14 0 f13 f14 (cp_f0 (fun t => f12.mp a t.1))) (fun a => ⟨by decide, br_c (fun b => s141 x13 x14 1 f13 f14 (cp_f1 ⟨cp_fy f12 a, b⟩)) (fun b => s141 x13 x14 0 f13 f14 (cp_f0 (fun t => b t.2)))⟩)
  have s93 : ∀ x13 : Int32, (x13 = 0 ↔ ¬ cp_KN x1) → wL_lawOf_93 post mc ms x0 x2 x3 x4 x6 x7 x8 x9 x10 x11 x12 x13 kc ks := fun x13 f13 =>
    br_c (fun a => s121 x13 0 f13 (cp_f0 (fun t => t.1 a))) (fun a => br_c (fun b => s121 x13 0 f13 (cp_f0 (fun t => t.2.1 b))) (fun b => br_c (fun c => s121 x13 0 f13 (cp_f0 (fun t => t.2.2.1 c))) (fun c => br_c (fun d => s121 x13 0 f13 (cp_f0 (fun t => t.2.2.2 d))) (fun d => s121 x13 1 f13 (cp_f1 ⟨a, b, c, d⟩)))))
  exact br_c (fun a => s93 1 (cp_f1 (Or.inl a))) (fun a => br_c (fun b => s93 1 (cp_f1 (Or.inr b))) (fun b => s93 0 (cp_f0 (fun t => t.elim a b))))
theorem cp_fin {post : Int32 → St0 → Prop} {mc ms : Nat} {p0 p1 p2 p3 p4 r13 r18 r19 r24 r29 r34 : Int32} {kc ks : Nat}
    (h6 : (cp_IN p0 → r13 = 1) ∧ (¬ cp_IN p0 → r13 = -1))
    (h7 : (¬ cp_KN p1 → r18 = -1) ∧ (cp_KN p1 → ¬ cp_IN p0 → r18 = -4) ∧ (cp_KN p1 → cp_IN p0 → r18 = 1))
    (h8 : (cp_IN p0 → r19 = 1) ∧ (¬ cp_IN p0 → r19 = -1))
    (h9 : (¬ cp_LI p2 p3 → r24 = -1) ∧ (cp_LI p2 p3 → ¬ (cp_IN p0 ∧ p0 / 8 = p2) → r24 = 0) ∧ (cp_LI p2 p3 → (cp_IN p0 ∧ p0 / 8 = p2) → r24 = (1 : Int32) <<< ((p0 &&& 7) &&& 31)))
    (h10 : (¬ cp_SP p1 p4 → r29 = -1) ∧ (cp_SP p1 p4 → ¬ r29 < 0))
    (h11 : ¬ r34 < 0)
    (h12 : cp_SP p1 p4 → ¬ r34 + r29 < 0 ∧ (cp_IN p0 → ¬ (cp_IN p0 ∧ p0 / 8 = p2) → ¬ r34 + r29 < 1))
    (h13 : cp_SP p1 p4 → ¬ 1 < p4 → r29 = 0)
    (H : post 1 ()) :
    (p0 < 0 → wL_lawOf_74 post mc ms p0 p1 p2 p3 p4 r13 r18 r19 r24 r29 r34 kc ks) ∧ (¬ p0 < 0 → ((63 < p0 → wL_lawOf_74 post mc ms p0 p1 p2 p3 p4 r13 r18 r19 r24 r29 r34 kc ks) ∧ (¬ 63 < p0 → wL_lawOf_75 post mc ms p0 p1 p2 p3 p4 r13 r18 r19 r24 r29 r34 1 kc ks))) := by
  have g : ∀ x12 : Int32, (x12 = 0 ↔ ¬ cp_IN p0) → wL_lawOf_75 post mc ms p0 p1 p2 p3 p4 r13 r18 r19 r24 r29 r34 x12 kc ks := fun x12 f12 =>
    cp_75 x12 f12 (fun x13 x14 x15 x16 f13 f14 f15 f16 => cp_165
      ⟨fun a => h6.2 (f12.mp a), fun a => h6.1 (cp_fy f12 a)⟩
      ⟨fun a => h7.1 (f13.mp a), fun a b => h7.2.1 (cp_fy f13 a) (f12.mp b), fun a b => h7.2.2 (cp_fy f13 a) (cp_fy f12 b)⟩
      ⟨fun a => h8.2 (f12.mp a), fun a => h8.1 (cp_fy f12 a)⟩
      ⟨fun a => h9.1 (f14.mp a), fun a b => h9.2.1 (cp_fy f14 a) (f15.mp b), fun a b => h9.2.2 (cp_fy f14 a) (cp_fy f15 b)⟩
      ⟨fun a => h10.1 (f16.mp a), fun a => h10.2 (cp_fy f16 a)⟩
      h11
      (fun a _ => ⟨(h12 (cp_fy f16 a)).1, fun b c => (h12 (cp_fy f16 a)).2 (cp_fy f12 b) (f15.mp c)⟩)
      (fun a b => h13 (cp_fy f16 a) b) H)
  exact br_c (fun a => g 0 (cp_f0 (fun t => t.1 a))) (fun a => br_c (fun b => g 0 (cp_f0 (fun t => t.2 b))) (fun b => g 1 (cp_f1 ⟨a, b⟩)))
/-! the run of the methods -/
theorem cp_xor_s (o : Int64) : o ^^^ o = 0 := cp_bt_ext (fun i _ => by rw [cp_bt_xor, Bool.xor_self, cp_bt_0])
theorem cp_xor_0 (o : Int64) : o ^^^ 0 = o := cp_bt_ext (fun i _ => by rw [cp_bt_xor, cp_bt_0, Bool.xor_false])
theorem cp_rest {Q : Int32 → Int32 → Int32 → Prop} {o : Int64} {a : Nat → Int32} {m y s n : Int32}
    (H : ∀ r24 r29 r34 : Int32, ((cp_LI y s → r24 = cp_old o y) ∧ (¬ cp_LI y s → r24 = -1)) → ((¬ cp_SP m n → r29 = -1) ∧ (cp_SP m n → ¬ r29 < 0)) → ¬ r34 < 0 →
      (cp_SP m n → ¬ r34 + r29 < 0 ∧ (((cp_LI y s → cp_new o y s ≠ 0) ∧ (¬ cp_LI y s → o ≠ 0)) → ¬ r34 + r29 < 1)) → (cp_SP m n → ¬ 1 < n → r29 = 0) → Q r24 r29 r34) :
    wpX_line (fun r24 u => match u with | (f, b) => wpX_clear (fun r29 u => match u with | (f', b') => wpX_cells (fun r34 => Q r24 r29 r34) (f', b')) (f, b) m n) (o, a) y s := by
  have core : ∀ (r24 : Int32) (o' : Int64), ((cp_LI y s → r24 = cp_old o y) ∧ (¬ cp_LI y s → r24 = -1)) → (((cp_LI y s → cp_new o y s ≠ 0) ∧ (¬ cp_LI y s → o ≠ 0)) → o' ≠ 0) →
      wpX_clear (fun r29 u => match u with | (f', b') => wpX_cells (fun r34 => Q r24 r29 r34) (f', b')) (o', a) m n := by
    intro r24 o' h24 hz
    refine cp_clear (fun sp q hq => cp_cells ?_) (fun sp => cp_cells ?_)
    · obtain ⟨i, hi, ei, pi⟩ := cp_ones_n (o' ^^^ q)
      obtain ⟨j, hj, ej, pj⟩ := cp_ones_n q
      refine H _ _ _ h24 ⟨fun t => absurd sp t, fun _ => by rw [ei]; exact nI_pos (by omega)⟩ (by rw [ej]; exact nI_pos (by omega)) (fun _ => ⟨by rw [ei, ej, nI_add]; exact nI_pos (by omega), fun c => ?_⟩) (fun _ l => by rw [hq l, cp_xor_s, cp_ones_0])
      rw [ei, ej, nI_add]
      refine nI_nlt (b := 1) ?_ (by omega)
      by_cases qz : q = 0
      · have t := pi (by rw [qz, cp_xor_0]; exact hz c)
        omega
      · have t := pj qz
        omega
    · obtain ⟨j, hj, ej, _⟩ := cp_ones_n o'
      exact H _ _ _ h24 ⟨fun _ => rfl, fun t => absurd t sp⟩ (by rw [ej]; exact nI_pos (by omega)) (fun t => absurd t sp) (fun t => absurd t sp)
  exact cp_line (fun li => core _ _ ⟨fun _ => rfl, fun t => absurd li t⟩ (fun c => c.1 li)) (fun li => core _ _ ⟨fun t => absurd t li, fun _ => rfl⟩ (fun c => c.2 li))
theorem cp_size_i {post : Int32 → Prop} {a : Nat → Int32} {m : Int32} {k : Nat} (hk : k < 64) (H : ∀ r, (cp_KN m → r = 1) → (¬ cp_KN m → r = -1) → post r) : wpX_size post (cp_one k, a) m (nI k) :=
  cp_size_in hk (fun t => H 1 (fun _ => rfl) (fun z => absurd t z)) (fun t => H (-1) (fun z => absurd z t) (fun _ => rfl))
theorem cp_size_o {post : Int32 → Prop} {u : St2} {m c : Int32} (hc : ¬ cp_IN c) (H : ∀ r, (cp_KN m → r = -4) → (¬ cp_KN m → r = -1) → post r) : wpX_size post u m c :=
  cp_size_out hc (fun t => H (-4) (fun _ => rfl) (fun z => absurd t z)) (fun t => H (-1) (fun z => absurd z t) (fun _ => rfl))
theorem cp_LI_n {y s : Int32} (h : cp_LI y s) : ∃ k : Nat, k < 8 ∧ y = nI k := by
  obtain ⟨k, hk, e⟩ := nI_of2 (x := y) (M := 7) (n := 7) (by decide) h.1 (Int32.not_lt.mp h.2.1)
  exact ⟨k, by omega, e⟩
theorem cp_own {k y : Nat} (hk : k < 64) (hy : y < 8) : nI k / 8 = nI y ↔ k / 8 = y := by
  rw [show (8 : Int32) = nI 8 from rfl, pk_div (by omega) (by omega) (by omega)]
  exact nI_eq (by omega) (by omega)
theorem cp_lawOf {post : Int32 → St0 → Prop} (p0 p1 p2 p3 p4 : Int32) (H : post 1 ()) : wpL_lawOf post 2 102 () p0 p1 p2 p3 p4 := by
  unfold wpL_lawOf wpX_init
  refine ⟨by omega, by omega, 1, 100, by omega, by omega, by omega, by omega, ?_⟩
  dsimp only
  refine cp_turn (fun k hk e => ?_) (fun z => ?_)
  · subst e
    dsimp only
    have hin : cp_IN (nI k) := ⟨nI_pos (by omega), Int32.not_lt.mpr (nI_le (b := 63) (by omega) (by decide))⟩
    refine cp_size_i hk (fun r18 k1 k2 => cp_depth_in hk (fun s => cp_rest (fun r24 r29 r34 h24 h29 h34 hs h0 => ?_)))
    refine cp_fin ⟨fun _ => rfl, fun t => absurd hin t⟩ ⟨k2, fun _ t => absurd hin t, fun t _ => k1 t⟩ ⟨fun _ => rfl, fun t => absurd hin t⟩ ⟨h24.2, fun li ow => ?_, fun li ow => ?_⟩ h29 h34 (fun sp => ⟨(hs sp).1, fun _ ow => (hs sp).2 ⟨fun li => ?_, fun _ => cp_nz (cp_one_bt k hk)⟩⟩) h0 H
    · obtain ⟨y, hy, e⟩ := cp_LI_n li
      rw [h24.1 li, e, cp_old_1 k hk y hy, if_neg (fun t => ow ⟨hin, by rw [e]; exact (cp_own hk hy).mpr t⟩)]
    · obtain ⟨y, hy, e⟩ := cp_LI_n li
      have t := ow.2
      rw [e] at t
      rw [h24.1 li, e, cp_old_1 k hk y hy, if_pos ((cp_own hk hy).mp t)]
    · obtain ⟨y, hy, e⟩ := cp_LI_n li
      rw [e]
      exact cp_new_nz hk hy (fun t => ow ⟨hin, by rw [e]; exact (cp_own hk hy).mpr t⟩)
  · dsimp only
    refine cp_size_o z (fun r18 k1 k2 => cp_depth_out z (cp_rest (fun r24 r29 r34 h24 h29 h34 hs h0 => ?_)))
    refine cp_fin ⟨fun t => absurd t z, fun _ => rfl⟩ ⟨k2, fun t _ => k1 t, fun _ t => absurd t z⟩ ⟨fun t => absurd t z, fun _ => rfl⟩ ⟨h24.2, fun li _ => ?_, fun _ ow => absurd ow.1 z⟩ h29 h34 (fun sp => ⟨(hs sp).1, fun t => absurd t z⟩) h0 H
    obtain ⟨y, hy, e⟩ := cp_LI_n li
    rw [h24.1 li, e, cp_old_0 y hy]
theorem cp_cellAt {post : Int32 → Prop} {L : Nat} {xs : Nat → Int32} {u : St0} {p : Int32} (hL : L ≤ 5) (i : Nat) (H : ∀ r, post r) (hp : p = nI i := by rfl) (hi : i < 2 ^ 31 := by omega) : wpL_cellAt post L xs u p :=
  pk_le L i (fun _ => H 0) (fun h => ⟨pk_in i L h hp (by omega), H _⟩) rfl hp (by omega) hi
theorem i_vc (xs : Nat → Int32) (L : Nat) (hL : L ≤ 5) : wpL_law (fun r => r = 1) L xs := by
  unfold wpL_law
  exact cp_cellAt hL 0 (fun p0 => cp_cellAt hL 1 (fun p1 => cp_cellAt hL 2 (fun p2 => cp_cellAt hL 3 (fun p3 => cp_cellAt hL 4 (fun p4 => ⟨2, 102, by omega, by omega, cp_lawOf p0 p1 p2 p3 p4 rfl⟩)))))
end
