set_option maxRecDepth 100000
/-! ===== PURE: numbers ===== -/
theorem FU_eq : FU = 20000 := rfl
theorem bnS {α β : Type} (v : α) (s : Hp) (f : α → Hp → Option β) : bn (some (v, s)) f = f v s := rfl
theorem btS {α β : Type} (v : α) (s : TW) (f : α → TW → Option β) : bt_ (some (v, s)) f = f v s := rfl
theorem bdS {α β : Type} (v : α) (f : α → β) : bd v f = f v := rfl
theorem jnS {α β : Type} (v : α) (f : α → β) : jn v f = f v := rfl
theorem obS {α β : Type} (v : α) (f : α → Option β) : (some v).bind f = f v := rfl
theorem nrm_i {z : Int} (h : -2147483648 ≤ z) (h2 : z ≤ 2147483647) : nrm z = z := nrm_eq h (by omega)
theorem iI_nat (n : Nat) : (iI (n : Int)).toBitVec = BitVec.ofNat 32 n := by
  show (Int32.ofInt (n : Int)).toBitVec = _
  rw [Int32.toBitVec_ofInt]
  exact BitVec.ofInt_natCast _ _
theorem toInt_bv (v : Int32) : v.toInt = v.toBitVec.toInt := rfl
theorem nat_of_bv {v : Int32} {n : Nat} (hn : n < 2147483648) (h : v.toBitVec = BitVec.ofNat 32 n) : v.toInt = n := by
  rw [toInt_bv, h, BitVec.toInt_ofNat']
  exact Int.bmod_eq_of_le (by omega) (by omega)
theorem orI_nat (x y : Nat) (hx : x < 2147483648) (hy : y < 2147483648) : orI x y = ((x ||| y : Nat) : Int) := by
  unfold orI
  refine nat_of_bv (Nat.or_lt_two_pow (n := 31) hx hy) ?_
  rw [Int32.toBitVec_or, iI_nat, iI_nat, BitVec.ofNat_or]
theorem anI_nat (x y : Nat) (hx : x < 2147483648) : anI x y = ((x &&& y : Nat) : Int) := by
  unfold anI
  refine nat_of_bv (Nat.and_lt_two_pow (n := 31) _ hx |> fun h => by rw [Nat.and_comm] at h; exact h) ?_
  rw [Int32.toBitVec_and, iI_nat, iI_nat, BitVec.ofNat_and]
theorem slI_1 : ∀ a : Nat, a < 31 → slI 1 (a : Int) = ((2 ^ a : Nat) : Int) := by decide +kernel
theorem sr_bit : ∀ a : Nat, a < 9 → ∀ x : Nat, x < 256 → anI (srI (x : Int) (a : Int)) 1 = if x.testBit a then 1 else 0 := by decide +kernel
theorem i8_id : ∀ n : Nat, n < 256 → i8I ((n : Int) - 128) = (n : Int) - 128 := by decide +kernel
theorem i8_i {z : Int} (h : -128 ≤ z) (h2 : z ≤ 127) : i8I z = z := by
  have := i8_id (z + 128).toNat (by omega)
  rw [show (((z + 128).toNat : Nat) : Int) - 128 = z by omega] at this
  exact this
theorem i16_id : ∀ n : Nat, n < 1000 → i16I (n : Int) = (n : Int) := by decide +kernel
theorem i16_i {z : Int} (h : 0 ≤ z) (h2 : z < 1000) : i16I z = z := by
  have := i16_id z.toNat (by omega)
  rw [show ((z.toNat : Nat) : Int) = z by omega] at this
  exact this
theorem b1_0 : b1I 0 = 0 := by decide
theorem b1_1 : b1I 1 = 1 := by decide
/-- a set of the first n numbers -/
def ms (P : Nat → Bool) : Nat → Nat
  | 0 => 0
  | n + 1 => ms P n ||| (if P n then 2 ^ n else 0)
theorem ms_lt (P : Nat → Bool) : ∀ n : Nat, ms P n < 2 ^ n := by
  intro n
  induction n with
  | zero => exact Nat.zero_lt_one
  | succ n ih =>
    rw [ms]
    refine Nat.or_lt_two_pow (Nat.lt_of_lt_of_le ih (Nat.pow_le_pow_right (by decide) (Nat.le_succ n))) ?_
    split
    · exact Nat.pow_lt_pow_right (by decide) (Nat.lt_succ_self n)
    · exact Nat.two_pow_pos _
theorem ms_bit (P : Nat → Bool) (a : Nat) : ∀ n : Nat, (ms P n).testBit a = (decide (a < n) && P a) := by
  intro n
  induction n with
  | zero => simp [ms]
  | succ n ih =>
    rw [ms, Nat.testBit_or, ih]
    by_cases e : a = n
    · subst e
      by_cases hp : P a = true
      · simp [hp]
      · simp [hp]
    · by_cases hp : P n = true
      · rw [if_pos hp, Nat.testBit_two_pow]
        have : decide (a < n + 1) = decide (a < n) := by
          by_cases hl : a < n
          · simp [hl]; omega
          · simp [hl]; omega
        rw [this]
        have e2 : decide (n = a) = false := by simp; omega
        rw [e2]; simp
      · rw [if_neg hp]
        have : decide (a < n + 1) = decide (a < n) := by
          by_cases hl : a < n
          · simp [hl]; omega
          · simp [hl]; omega
        rw [this]; simp
/-- how many of the first n -/
def cn (P : Nat → Bool) : Nat → Nat
  | 0 => 0
  | n + 1 => cn P n + (if P n then 1 else 0)
theorem cn_le (P : Nat → Bool) : ∀ n : Nat, cn P n ≤ n := by
  intro n
  induction n with
  | zero => exact Nat.le_refl _
  | succ n ih => rw [cn]; split <;> omega
