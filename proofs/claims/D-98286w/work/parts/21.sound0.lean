/-! SOUNDNESS 0: numbers -/
def zC32 (x : Int) : Prop := -2147483648 ≤ x ∧ x < 2147483648
def zC64 (x : Int) : Prop := -9223372036854775808 ≤ x ∧ x < 9223372036854775808
theorem zw_c (x : Int) : zC32 (zw x) := by
  unfold zC32 zw
  have h1 := Int.le_bmod (x := x) (m := 4294967296) (by decide)
  have h2 := Int.bmod_lt (x := x) (m := 4294967296) (by decide)
  omega
theorem zwl_c (x : Int) : zC64 (zwl x) := by
  unfold zC64 zwl
  have h1 := Int.le_bmod (x := x) (m := 18446744073709551616) (by decide)
  have h2 := Int.bmod_lt (x := x) (m := 18446744073709551616) (by decide)
  omega
theorem zw_id {x : Int} (h : -2147483648 ≤ x) (h2 : x < 2147483648) : zw x = x := by
  unfold zw
  rw [Int.bmod_def]
  split <;> omega
theorem zwl_id {x : Int} (h : -9223372036854775808 ≤ x) (h2 : x < 9223372036854775808) : zwl x = x := by
  unfold zwl
  rw [Int.bmod_def]
  split <;> omega
theorem zi_toInt (x : Int) : (Int32.ofInt x).toInt = zw x := by
  rw [Int32.toInt_ofInt]; rfl
theorem zl_toInt (x : Int) : (Int64.ofInt x).toInt = zwl x := by
  rw [Int64.toInt_ofInt]; rfl
theorem zi_t {x : Int} (h : zC32 x) : (Int32.ofInt x).toInt = x := by rw [zi_toInt, zw_id h.1 h.2]
theorem zl_t {x : Int} (h : zC64 x) : (Int64.ofInt x).toInt = x := by rw [zl_toInt, zwl_id h.1 h.2]
theorem zi_inj {a b : Int32} (h : a.toInt = b.toInt) : a = b := Int32.toInt_inj.mp h
theorem zi_of (x : Int32) : Int32.ofInt x.toInt = x := Int32.ofInt_toInt x
theorem zl_of (x : Int64) : Int64.ofInt x.toInt = x := Int64.ofInt_toInt x
theorem zi_w (x : Int) : Int32.ofInt (zw x) = Int32.ofInt x := by
  apply Int32.toInt_inj.mp
  rw [zi_toInt, zi_toInt, zw_id (zw_c x).1 (zw_c x).2]
theorem zl_w (x : Int) : Int64.ofInt (zwl x) = Int64.ofInt x := by
  apply Int64.toInt_inj.mp
  rw [zl_toInt, zl_toInt, zwl_id (zwl_c x).1 (zwl_c x).2]
theorem zi_add (x y : Int) : Int32.ofInt (zw (x + y)) = Int32.ofInt x + Int32.ofInt y := by rw [zi_w, Int32.ofInt_add]
theorem zi_sub (x y : Int) : Int32.ofInt (zw (x - y)) = Int32.ofInt x - Int32.ofInt y := by rw [zi_w, Int32.ofInt_sub]
theorem zi_mul (x y : Int) : Int32.ofInt (zw (x * y)) = Int32.ofInt x * Int32.ofInt y := by rw [zi_w, Int32.ofInt_mul]
theorem zl_add (x y : Int) : Int64.ofInt (zwl (x + y)) = Int64.ofInt x + Int64.ofInt y := by rw [zl_w, Int64.ofInt_add]
theorem zl_sub (x y : Int) : Int64.ofInt (zwl (x - y)) = Int64.ofInt x - Int64.ofInt y := by rw [zl_w, Int64.ofInt_sub]
theorem zl_mul (x y : Int) : Int64.ofInt (zwl (x * y)) = Int64.ofInt x * Int64.ofInt y := by rw [zl_w, Int64.ofInt_mul]
theorem zi_c (x : Int32) : zC32 x.toInt := by
  have h1 := Int32.le_toInt x
  have h2 := Int32.toInt_lt x
  unfold zC32
  omega
theorem zl_c (x : Int64) : zC64 x.toInt := by
  have h1 := Int64.le_toInt x
  have h2 := Int64.toInt_lt x
  unfold zC64
  omega
theorem zb_of (f : Int32 → Int32 → Int32) (x y : Int) : Int32.ofInt (zb f x y) = f (Int32.ofInt x) (Int32.ofInt y) := zi_of _
theorem zlb_of (f : Int64 → Int64 → Int64) (x y : Int) : Int64.ofInt (zlb f x y) = f (Int64.ofInt x) (Int64.ofInt y) := zl_of _
theorem zb_c (f : Int32 → Int32 → Int32) (x y : Int) : zC32 (zb f x y) := zi_c _
theorem zlb_c (f : Int64 → Int64 → Int64) (x y : Int) : zC64 (zlb f x y) := zl_c _
theorem zi_lt {x y : Int} (hx : zC32 x) (hy : zC32 y) : Int32.ofInt x < Int32.ofInt y ↔ x < y := by
  rw [Int32.lt_iff_toInt_lt, zi_t hx, zi_t hy]
theorem zi_le {x y : Int} (hx : zC32 x) (hy : zC32 y) : Int32.ofInt x ≤ Int32.ofInt y ↔ x ≤ y := by
  rw [Int32.le_iff_toInt_le, zi_t hx, zi_t hy]
theorem zi_eq {x y : Int} (hx : zC32 x) (hy : zC32 y) : Int32.ofInt x = Int32.ofInt y ↔ x = y := by
  rw [← Int32.toInt_inj, zi_t hx, zi_t hy]
theorem zl_lt {x y : Int} (hx : zC64 x) (hy : zC64 y) : Int64.ofInt x < Int64.ofInt y ↔ x < y := by
  rw [Int64.lt_iff_toInt_lt, zl_t hx, zl_t hy]
theorem zl_eq {x y : Int} (hx : zC64 x) (hy : zC64 y) : Int64.ofInt x = Int64.ofInt y ↔ x = y := by
  rw [← Int64.toInt_inj, zl_t hx, zl_t hy]
theorem zi_0 : Int32.ofInt 0 = 0 := rfl
theorem zc_0 : zC32 0 := ⟨by decide, by decide⟩
theorem zi_clamp {x : Int} (hx : zC32 x) (h0 : 0 ≤ x) : (Int32.ofInt x).toNatClampNeg = x.toNat := by
  show (Int32.ofInt x).toInt.toNat = _
  rw [zi_t hx]
theorem zi_in {x : Int} {n : Nat} (hx : zC32 x) (h0 : 0 ≤ x) (hn : x < (n : Int)) : vp_in (Int32.ofInt x) n := by
  rw [vp_in_iff, zi_t hx]
  exact ⟨h0, hn⟩
theorem zi_n (n : Nat) : Int32.ofInt (n : Int) = Int32.ofNat n := Int32.ofInt_eq_ofNat
theorem zi2b_of (x : Int) : Int32.ofInt (zi2b x) = (Int32.ofInt x).toInt8.toInt32 := zi_of _
theorem zi2c_of (x : Int) : Int32.ofInt (zi2c x) = ((Int32.ofInt x).toUInt32 % 65536).toInt32 := zi_of _
theorem zi2l {x : Int} (hx : zC32 x) : (Int32.ofInt x).toInt64 = Int64.ofInt x := by
  apply Int64.toInt_inj.mp
  rw [Int32.toInt_toInt64, zi_t hx, zl_t]
  unfold zC32 at hx; unfold zC64; omega
theorem zl2i (x : Int) (hx : zC64 x) : (Int64.ofInt x).toInt32 = Int32.ofInt (zw x) := by
  apply Int32.toInt_inj.mp
  rw [Int64.toInt_toInt32, zl_t hx, zi_w, zi_toInt]; rfl
theorem zC_64 {x : Int} (h : zC32 x) : zC64 x := by unfold zC32 at h; unfold zC64; omega
