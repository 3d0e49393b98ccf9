/-! ===== whole numbers: Int32 and Int64 by an Int ===== -/
theorem fv0 : ((0 : Fin 4) : Nat) = 0 := rfl
theorem fv1 : ((1 : Fin 4) : Nat) = 1 := rfl
theorem fv2 : ((2 : Fin 4) : Nat) = 2 := rfl
theorem fv3 : ((3 : Fin 4) : Nat) = 3 := rfl
theorem iZ_add (a b : Int) : iZ a + iZ b = iZ (a + b) := (Int32.ofInt_add a b).symm
theorem iZ_sub (a b : Int) : iZ a - iZ b = iZ (a - b) := (Int32.ofInt_sub a b).symm
theorem iZ_mul (a b : Int) : iZ a * iZ b = iZ (a * b) := (Int32.ofInt_mul a b).symm
theorem iZ_neg (a : Int) : -iZ a = iZ (-a) := (Int32.ofInt_neg a).symm
theorem iZ_toInt {a : Int} (h1 : -2147483648 ≤ a) (h2 : a ≤ 2147483647) : (iZ a).toInt = a := by
  unfold iZ
  exact Int32.toInt_ofInt_of_le (by omega) (by omega)
theorem iZ_of (x : Int32) : iZ x.toInt = x := Int32.ofInt_toInt x
theorem iZ_lt {a b : Int} (h1 : -2147483648 ≤ a) (h2 : a ≤ 2147483647) (h3 : -2147483648 ≤ b) (h4 : b ≤ 2147483647) : (iZ a < iZ b) = (a < b) := by
  rw [Int32.lt_iff_toInt_lt, iZ_toInt h1 h2, iZ_toInt h3 h4]
theorem iZ_le {a b : Int} (h1 : -2147483648 ≤ a) (h2 : a ≤ 2147483647) (h3 : -2147483648 ≤ b) (h4 : b ≤ 2147483647) : (iZ a ≤ iZ b) = (a ≤ b) := by
  rw [Int32.le_iff_toInt_le, iZ_toInt h1 h2, iZ_toInt h3 h4]
theorem iZ_eq {a b : Int} (h1 : -2147483648 ≤ a) (h2 : a ≤ 2147483647) (h3 : -2147483648 ≤ b) (h4 : b ≤ 2147483647) : (iZ a = iZ b) = (a = b) := by
  apply propext
  constructor
  · intro h
    have := congrArg Int32.toInt h
    rwa [iZ_toInt h1 h2, iZ_toInt h3 h4] at this
  · intro h; rw [h]
theorem iZ_0 : (0 : Int32) = iZ 0 := rfl
theorem iZ_1 : (1 : Int32) = iZ 1 := rfl
theorem ix_iZ {a : Int} (h1 : 0 ≤ a) (h2 : a ≤ 2147483647) : (iZ a).toNatClampNeg = a.toNat := by
  have h := iZ_toInt (a := a) (by omega) h2
  rw [← Int32.toNat_toInt, h]
theorem vp_in_iZ {a : Int} {n : Nat} (h1 : -2147483648 ≤ a) (h2 : a ≤ 2147483647) : vp_in (iZ a) n = (0 ≤ a ∧ a < n) := by
  apply propext
  rw [vp_in_iff, iZ_toInt h1 h2]
theorem lZ_add (a b : Int) : lZ a + lZ b = lZ (a + b) := (Int64.ofInt_add a b).symm
theorem lZ_sub (a b : Int) : lZ a - lZ b = lZ (a - b) := (Int64.ofInt_sub a b).symm
theorem lZ_mul (a b : Int) : lZ a * lZ b = lZ (a * b) := (Int64.ofInt_mul a b).symm
theorem lZ_neg (a : Int) : -lZ a = lZ (-a) := (Int64.ofInt_neg a).symm
theorem lZ_toInt {a : Int} (h1 : -9223372036854775808 ≤ a) (h2 : a ≤ 9223372036854775807) : (lZ a).toInt = a := by
  unfold lZ
  exact Int64.toInt_ofInt_of_le (by omega) (by omega)
theorem lZ_of (x : Int64) : lZ x.toInt = x := Int64.ofInt_toInt x
theorem lZ_lt {a b : Int} (h1 : -9223372036854775808 ≤ a) (h2 : a ≤ 9223372036854775807) (h3 : -9223372036854775808 ≤ b) (h4 : b ≤ 9223372036854775807) : (lZ a < lZ b) = (a < b) := by
  rw [Int64.lt_iff_toInt_lt, lZ_toInt h1 h2, lZ_toInt h3 h4]
theorem lZ_eq {a b : Int} (h1 : -9223372036854775808 ≤ a) (h2 : a ≤ 9223372036854775807) (h3 : -9223372036854775808 ≤ b) (h4 : b ≤ 9223372036854775807) : (lZ a = lZ b) = (a = b) := by
  apply propext
  constructor
  · intro h
    have := congrArg Int64.toInt h
    rwa [lZ_toInt h1 h2, lZ_toInt h3 h4] at this
  · intro h; rw [h]
theorem i2l_iZ {a : Int} (h1 : -2147483648 ≤ a) (h2 : a ≤ 2147483647) : (iZ a).toInt64 = lZ a := by
  apply Int64.toInt_inj.mp
  rw [Int32.toInt_toInt64, iZ_toInt h1 h2, lZ_toInt (by omega) (by omega)]
theorem l2i_lZ (a : Int) : (lZ a).toInt32 = iZ a := by
  unfold lZ iZ
  exact Int64.toInt32_ofInt
theorem bipE {n : Int} (h1 : -128 ≤ n) (h2 : n ≤ 127) : bip n = iZ n := by
  unfold bip
  apply Int32.toInt_inj.mp
  rw [Int8.toInt_toInt32, iZ_toInt (by omega) (by omega), Int8.toInt_ofInt_of_le (by omega) (by omega)]
theorem sipE {n : Int} (h1 : -32768 ≤ n) (h2 : n ≤ 32767) : sip n = iZ n := by
  unfold sip
  apply Int32.toInt_inj.mp
  rw [Int16.toInt_toInt32, iZ_toInt (by omega) (by omega), Int16.toInt_ofInt_of_le (by omega) (by omega)]
theorem lcon0 : lcon 0 = lZ 0 := rfl
theorem lcon1 : lcon 1 = lZ 1 := rfl
/-- a truth value as an int -/
def bz (b : Bool) : Int32 := if b then 1 else 0
theorem bz_t : bz true = iZ 1 := rfl
theorem bz_f : bz false = iZ 0 := rfl
theorem bz_eq0 (b : Bool) : (bz b = 0) = (b = false) := by cases b <;> decide
theorem bz_eq1 (b : Bool) : (bz b = iZ 1) = (b = true) := by cases b <;> decide
theorem rtI_int (x : Int32) : rtI (some .int) x = True := by
  simp only [rtI, eq_iff_iff, iff_true]; rfl
theorem rtI_b0 : rtI (some .boolean) (iZ 0) = True := by
  simp only [rtI, eq_iff_iff, iff_true]; decide
theorem rtI_b1 : rtI (some .boolean) (iZ 1) = True := by
  simp only [rtI, eq_iff_iff, iff_true]; decide
theorem rtI_bz (b : Bool) : rtI (some .boolean) (bz b) = True := by
  simp only [rtI, eq_iff_iff, iff_true]; cases b <;> decide
theorem refT_o (C : String) : refT (some (.object C)) = True := rfl
theorem refT_a (t : FieldType) : refT (some (.array t)) = True := rfl
theorem fitv_int (x : Int32) : fitv .int (.int x) = True := by
  simp [fitv, narrow, fits]
theorem fitv_long (x : Int64) : fitv .long (.long x) = True := by
  simp [fitv, narrow, fits]
theorem fitv_ref (C : String) (a : Nat) : fitv (.object C) (.ref a) = True := by
  simp [fitv, narrow, fits]
theorem fitv_null (C : String) : fitv (.object C) .null = True := by
  simp [fitv, narrow, fits]
theorem fitv_arr (t : FieldType) (a : Nat) : fitv (.array t) (.ref a) = True := by
  simp [fitv, narrow, fits]
theorem fitv_arrn (t : FieldType) : fitv (.array t) .null = True := by
  simp [fitv, narrow, fits]
theorem fitv_bz (b : Bool) : fitv .boolean (.int (bz b)) = True := by
  simp only [fitv, eq_iff_iff, iff_true]; cases b <;> decide
theorem fitv_b0 : fitv .boolean (.int (iZ 0)) = True := by
  simp only [fitv, eq_iff_iff, iff_true]; decide
theorem fitv_b1 : fitv .boolean (.int (iZ 1)) = True := by
  simp only [fitv, eq_iff_iff, iff_true]; decide
theorem lf1 {Q : Out → MH → Prop} {h : MH} {e : Bool} (hQ : Q (.inl (some (.int (bz e)))) h) (he : e = true) : Q (.inl (some (.int (iZ 1)))) h := by rwa [he, bz_t] at hQ
theorem lf0 {Q : Out → MH → Prop} {h : MH} {e : Bool} (hQ : Q (.inl (some (.int (bz e)))) h) (he : e = false) : Q (.inl (some (.int (iZ 0)))) h := by rwa [he, bz_f] at hQ

