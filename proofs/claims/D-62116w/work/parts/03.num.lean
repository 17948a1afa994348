/-! numbers: the machine's ints and longs as integers -/
def zi (x : Int) : Int32 := Int32.ofInt x
def zj (x : Int) : Int64 := Int64.ofInt x
abbrev zc (x : Int) : Prop := -2147483648 ≤ x ∧ x < 2147483648
/-- the state: cells by the number of their family and their place -/
abbrev zS : Type := Nat → Int → Int
def zup (σ : zS) (k : Nat) (i v : Int) : zS := fun k' i' => if k' = k then (if i' = i then v else σ k' i') else σ k' i'
theorem zup_at (σ : zS) (k : Nat) (i v : Int) : zup σ k i v k i = v := by simp [zup]
theorem zup_ne (σ : zS) {k k' : Nat} (i v i' : Int) (h : k' ≠ k) : zup σ k i v k' i' = σ k' i' := by simp [zup, h]
theorem zup_ni (σ : zS) (k : Nat) {i i' : Int} (v : Int) (h : i' ≠ i) : zup σ k i v k i' = σ k i' := by simp [zup, h]
theorem zup_or (σ : zS) (k : Nat) (i v i' : Int) : zup σ k i v k i' = if i' = i then v else σ k i' := by simp [zup]
theorem zup_f (σ : zS) {k k' : Nat} (i v : Int) (h : k' ≠ k) : zup σ k i v k' = σ k' := by funext i'; simp [zup, h]
theorem zi_toInt {x : Int} (h : zc x) : (zi x).toInt = x := Int32.toInt_ofInt_of_le (by omega) (by omega)
theorem zi_of (x : Int32) : zi x.toInt = x := Int32.ofInt_toInt x
theorem zj_of (x : Int64) : zj x.toInt = x := Int64.ofInt_toInt x
theorem zi_c (x : Int32) : zc x.toInt := ⟨x.le_toInt, x.toInt_lt⟩
theorem zi_add (x y : Int) : zi x + zi y = zi (x + y) := (Int32.ofInt_add x y).symm
theorem zi_sub (x y : Int) : zi x - zi y = zi (x - y) := (Int32.ofInt_sub x y).symm
theorem zi_mul (x y : Int) : zi x * zi y = zi (x * y) := (Int32.ofInt_mul x y).symm
theorem zj_add (x y : Int) : zj x + zj y = zj (x + y) := (Int64.ofInt_add x y).symm
theorem zj_sub (x y : Int) : zj x - zj y = zj (x - y) := (Int64.ofInt_sub x y).symm
theorem zj_mul (x y : Int) : zj x * zj y = zj (x * y) := (Int64.ofInt_mul x y).symm
theorem zi_lt {x y : Int} (hx : zc x) (hy : zc y) : zi x < zi y ↔ x < y := by rw [Int32.lt_iff_toInt_lt, zi_toInt hx, zi_toInt hy]
theorem zi_le {x y : Int} (hx : zc x) (hy : zc y) : zi x ≤ zi y ↔ x ≤ y := by rw [Int32.le_iff_toInt_le, zi_toInt hx, zi_toInt hy]
theorem zi_eq {x y : Int} (hx : zc x) (hy : zc y) : zi x = zi y ↔ x = y := by rw [← Int32.toInt_inj, zi_toInt hx, zi_toInt hy]
theorem zi_0 : zi 0 = 0 := by decide
theorem zc0 : zc 0 := by decide
theorem zi_div {x y : Int} (hx : zc x) (h0 : 0 ≤ x) (hy : zc y) (h1 : 0 < y) : zi x / zi y = zi (x / y) := by
  have h := Int32.toInt_div_of_ne_right (zi x) (zi y) (fun q => by
    have h2 := zi_toInt hy
    rw [q] at h2
    rw [← h2] at h1
    exact absurd h1 (by decide))
  rw [zi_toInt hx, zi_toInt hy, Int.tdiv_eq_ediv_of_nonneg h0] at h
  rw [← h, zi_of]
theorem zi_rem {x y : Int} (hx : zc x) (h0 : 0 ≤ x) (hy : zc y) (h1 : 0 < y) : zi x - zi x / zi y * zi y = zi (x % y) := by
  rw [zi_div hx h0 hy h1, zi_mul, zi_sub]
  congr 1
  have := Int.mul_ediv_add_emod x y
  rw [Int.mul_comm] at this
  omega
theorem zi_ne0 {y : Int} (hy : zc y) (h1 : 0 < y) : ¬ zi y = 0 := by rw [← zi_0, zi_eq hy zc0]; omega
/-- the bits of ints and longs, as functions of integers -/
def zand (x y : Int) : Int := (zi x &&& zi y).toInt
def zor (x y : Int) : Int := (zi x ||| zi y).toInt
def zshl (x y : Int) : Int := (zi x <<< (zi y &&& 31)).toInt
def zshr (x y : Int) : Int := (zi x >>> (zi y &&& 31)).toInt
def zushr (x y : Int) : Int := ((zi x).toUInt32 >>> ((zi y).toUInt32 &&& Int32.toUInt32 31)).toInt32.toInt
def zland (x y : Int) : Int := (zj x &&& zj y).toInt
def zlor (x y : Int) : Int := (zj x ||| zj y).toInt
def zlshl (x y : Int) : Int := (zj x <<< ((zi y).toInt64 &&& 63)).toInt
def zlshr (x y : Int) : Int := (zj x >>> ((zi y).toInt64 &&& 63)).toInt
def zlushr (x y : Int) : Int := ((zj x).toUInt64 >>> ((zi y).toInt64.toUInt64 &&& Int64.toUInt64 63)).toInt64.toInt
theorem zc_and (x y : Int) : zc (zand x y) := zi_c _
theorem zc_or (x y : Int) : zc (zor x y) := zi_c _
theorem zc_shl (x y : Int) : zc (zshl x y) := zi_c _
theorem zc_shr (x y : Int) : zc (zshr x y) := zi_c _
theorem zc_ushr (x y : Int) : zc (zushr x y) := zi_c _
theorem zi_i2l {x : Int} (h : zc x) : (zi x).toInt64 = zj x := Int32.toInt64_ofInt (by have : Int32.minValue.toInt = -2147483648 := by decide
                                                                                       omega) (by have : Int32.maxValue.toInt = 2147483647 := by decide
                                                                                                  omega)
theorem zj_l2i (x : Int) : (zj x).toInt32 = zi x := Int64.toInt32_ofInt
theorem zi_cl {i : Int} (h0 : 0 ≤ i) (h : i < 2147483648) : (zi i).toNatClampNeg = i.toNat := Int32.toNatClampNeg_ofInt_of_le (by omega) (by omega)
theorem zi_in {i : Int} {n : Nat} (h0 : 0 ≤ i) (h : i < n) (hn : n < 2147483648) : vp_in (zi i) n := by
  rw [vp_in_iff, zi_toInt (by omega)]
  exact ⟨h0, h⟩
theorem zi_bool {v : Int} (h : v = 0 ∨ v = 1) : vp_nar .boolean (zi v) = zi v := by rcases h with rfl | rfl <;> decide
