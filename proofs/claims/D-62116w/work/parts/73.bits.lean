/-! bits as arithmetic -/
theorem sh32 : ∀ k : Nat, k < 32 → ((zi (k : Int) &&& 31).toBitVec.smod 32).toNat = k := by decide +kernel
theorem su32 : ∀ k : Nat, k < 32 → ((zi (k : Int)).toUInt32 &&& Int32.toUInt32 31).toNat = k := by decide +kernel
theorem sh64 : ∀ k : Nat, k < 64 → (((zi (k : Int)).toInt64 &&& 63).toBitVec.smod 64).toNat = k := by decide +kernel
theorem su64 : ∀ k : Nat, k < 64 → ((zi (k : Int)).toInt64.toUInt64 &&& Int64.toUInt64 63).toNat = k := by decide +kernel
abbrev zd (x : Int) : Prop := -9223372036854775808 ≤ x ∧ x < 9223372036854775808
theorem zj_toInt {x : Int} (h : zd x) : (zj x).toInt = x := Int64.toInt_ofInt_of_le (by omega) (by omega)
theorem b_shr {x : Int} {k : Nat} (h : zc x) (hk : k < 32) : zshr x k = x / 2 ^ k := by
  have := Jvm.Kit.i32_shr (zi x) (zi (k : Int) &&& 31) (sh32 k hk)
  rw [zi_toInt h] at this
  exact this
theorem b_ushr {x : Int} {k : Nat} (h : zc x) (h0 : 0 ≤ x) (hk : k < 32) : zushr x k = x / 2 ^ k := by
  have := Jvm.Kit.i32_iushr (x := zi x) (by rw [Jvm.Kit.i32_nonneg, zi_toInt h]; exact h0) (su32 k hk) hk
  rw [zi_toInt h] at this
  exact this
theorem b_shl {x : Int} {k : Nat} (h : zc x) (hk : k < 32) (h1 : zc (x * 2 ^ k)) : zshl x k = x * 2 ^ k := by
  have := Jvm.Kit.i32_shl (zi x) (zi (k : Int) &&& 31) (sh32 k hk) (by rw [zi_toInt h]; have := h1.1; omega) (by rw [zi_toInt h]; have := h1.2; omega)
  rw [zi_toInt h] at this
  exact this
theorem z_mask {x m : Int} {k : Nat} (h : zc x) (hk : k < 32) (hm : (zi m).toBitVec.toNat = 2 ^ k - 1) : zand x m = x % 2 ^ k := by
  have := Jvm.Kit.i32_mask (zi x) (zi m) hk hm
  rw [zi_toInt h] at this
  exact this
theorem z_m1 {x : Int} (h : zc x) : zand x 1 = x % 2 := z_mask (k := 1) h (by decide) (by decide)
theorem z_m3 {x : Int} (h : zc x) : zand x 3 = x % 4 := z_mask (k := 2) h (by decide) (by decide)
theorem z_m15 {x : Int} (h : zc x) : zand x 15 = x % 16 := z_mask (k := 4) h (by decide) (by decide)
/-- bit k of a number, as both classes read it -/
theorem z_bit {x : Int} {k : Nat} (h : zc x) (hk : k < 32) : zand (zshr x k) 1 = x / 2 ^ k % 2 := by
  rw [z_m1 (zc_shr _ _), b_shr h hk]
theorem z_shl1 : ∀ k : Nat, k < 31 → zshl 1 (k : Int) = 2 ^ k := by decide +kernel
theorem bv_or (w k : Nat) (hk : k < w) (a b : Nat) (ha : a < 2 ^ k) (h : b * 2 ^ k < 2 ^ w) : (BitVec.ofNat w a ||| BitVec.ofNat w (b * 2 ^ k)).toNat = a + b * 2 ^ k := by
  have hp : 2 ^ k ≤ 2 ^ w := Nat.pow_le_pow_right (by decide) (by omega)
  rw [BitVec.toNat_or, BitVec.toNat_ofNat, BitVec.toNat_ofNat, Nat.mod_eq_of_lt (by omega), Nat.mod_eq_of_lt h, Nat.or_comm, Nat.mul_comm, ← Nat.two_pow_add_eq_or_of_lt ha]
  omega
theorem bi_nat {n : Nat} : (zi (n : Int)).toBitVec = BitVec.ofNat 32 n := rfl
theorem bj_nat {n : Nat} : (zj (n : Int)).toBitVec = BitVec.ofNat 64 n := rfl
theorem bv_int {w n : Nat} {x : BitVec w} (h : x.toNat = n) (h2 : 2 * n < 2 ^ w) : x.toInt = n := by
  rw [BitVec.toInt_eq_toNat_cond, h, if_pos h2]
/-- a bit is set above a number -/
theorem z_orb {v b : Int} {k : Nat} (h0 : 0 ≤ v) (h1 : v < 2 ^ k) (hb : b = 0 ∨ b = 1) (hk : k < 30) : zor v (zshl b k) = v + b * 2 ^ k := by
  obtain ⟨n, rfl⟩ := Int.eq_ofNat_of_zero_le h0
  obtain ⟨m, rfl⟩ := Int.eq_ofNat_of_zero_le (show 0 ≤ b by omega)
  have hp : (2 : Nat) ^ k ≤ 2 ^ 29 := Nat.pow_le_pow_right (by decide) (by omega)
  have hm : m ≤ 1 := by omega
  have hn : n < 2 ^ k := by exact_mod_cast h1
  have hmk : m * 2 ^ k ≤ 2 ^ 29 := Nat.le_trans (Nat.mul_le_mul_right _ hm) (by omega)
  have e : ((m : Int) * 2 ^ k) = ((m * 2 ^ k : Nat) : Int) := by push_cast; rfl
  have hs : zshl (m : Int) k = ((m * 2 ^ k : Nat) : Int) := by
    rw [← e]
    exact b_shl (by omega) (by omega) (by rw [e]; omega)
  rw [hs, e]
  show ((zi (n : Int)).toBitVec ||| (zi ((m * 2 ^ k : Nat) : Int)).toBitVec).toInt = _
  rw [bi_nat, bi_nat, bv_int (bv_or 32 k (by omega) n m hn (by omega)) (by omega)]
  push_cast
  rfl
theorem z_andb {a b : Int} (ha : a = 0 ∨ a = 1) (hb : b = 0 ∨ b = 1) : zand a b = a * b := by rcases ha with rfl | rfl <;> rcases hb with rfl | rfl <;> decide
/-- longs -/
theorem z_lshl1 : ∀ k : Nat, k < 63 → zlshl 1 (k : Int) = 2 ^ k := by decide +kernel
theorem b_lushr {x : Int} {k : Nat} (h : zd x) (h0 : 0 ≤ x) (hk : k < 64) : zlushr x k = x / 2 ^ k := by
  have := Jvm.Kit.i64_lushr (x := zj x) (by rw [Jvm.Kit.i64_nonneg, zj_toInt h]; exact h0) (su64 k hk) hk
  rw [zj_toInt h] at this
  exact this
theorem b_lshr {x : Int} {k : Nat} (h : zd x) (hk : k < 64) : zlshr x k = x / 2 ^ k := by
  have := Jvm.Kit.i64_shr (zj x) ((zi (k : Int)).toInt64 &&& 63) (sh64 k hk)
  rw [zj_toInt h] at this
  exact this
theorem z_lmask {x m : Int} {k : Nat} (h : zd x) (hk : k < 64) (hm : (zj m).toBitVec.toNat = 2 ^ k - 1) : zland x m = x % 2 ^ k := by
  have := Jvm.Kit.i64_mask (zj x) (zj m) hk hm
  rw [zj_toInt h] at this
  exact this
theorem z_lm1 {x : Int} (h : zd x) : zland x 1 = x % 2 := z_lmask (k := 1) h (by decide) (by decide)
theorem zlm_nat : ∀ k : Nat, k < 63 → (zj ((2 : Int) ^ k - 1)).toBitVec.toNat = 2 ^ k - 1 := by decide +kernel
/-- all but the k last places are struck -/
theorem z_lmk {x : Int} {k : Nat} (h : zd x) (hk : k < 63) : zland x (2 ^ k - 1) = x % 2 ^ k := z_lmask h (by omega) (zlm_nat k hk)
/-- a bit comes in at the right -/
theorem z_lin {v b : Int} (h0 : 0 ≤ v) (h1 : v < 2 ^ 61) (hb : b = 0 ∨ b = 1) : zlor (zlshl v 1) b = 2 * v + b := by
  have e1 : zlshl v 1 = v * 2 := by
    have := Jvm.Kit.i64_shl (zj v) ((zi (1 : Int)).toInt64 &&& 63) (k := 1) (by decide) (by rw [zj_toInt (by omega)]; omega) (by rw [zj_toInt (by omega)]; omega)
    rw [zj_toInt (by omega)] at this
    exact this
  obtain ⟨n, rfl⟩ := Int.eq_ofNat_of_zero_le h0
  obtain ⟨m, rfl⟩ := Int.eq_ofNat_of_zero_le (show 0 ≤ b by omega)
  have hn : n < 2 ^ 61 := by omega
  have hm : m < 2 ^ 1 := by omega
  have e2 : ((n : Int) * 2) = ((n * 2 ^ 1 : Nat) : Int) := by omega
  rw [e1, e2]
  show ((zj ((n * 2 ^ 1 : Nat) : Int)).toBitVec ||| (zj (m : Int)).toBitVec).toInt = _
  rw [bj_nat, bj_nat, BitVec.or_comm, bv_int (bv_or 64 1 (by omega) m n hm (by omega)) (by omega)]
  omega
