set_option maxRecDepth 100000
/-! ints by their values in Int: iI -/
def iI (z : Int) : Int32 := Int32.ofInt z
def rI (z : Int) : Prop := -2147483648 ≤ z ∧ z < 2147483648
theorem iI_toInt {z : Int} (h : rI z) : (iI z).toInt = z := Int32.toInt_ofInt_of_le h.1 h.2
theorem iI_of (x : Int32) : iI x.toInt = x := Int32.ofInt_toInt x
theorem rI_of (x : Int32) : rI x.toInt := ⟨Int32.le_toInt x, Int32.toInt_lt x⟩
theorem iI_add (a b : Int) : iI a + iI b = iI (a + b) := (Int32.ofInt_add a b).symm
theorem iI_sub (a b : Int) : iI a - iI b = iI (a - b) := (Int32.ofInt_sub a b).symm
theorem iI_mul (a b : Int) : iI a * iI b = iI (a * b) := (Int32.ofInt_mul a b).symm
theorem iI_neg (a : Int) : - iI a = iI (- a) := (Int32.ofInt_neg a).symm
theorem iI_lt {a b : Int} (ha : rI a) (hb : rI b) : (iI a < iI b) = (a < b) := by
  rw [eq_iff_iff, Int32.lt_iff_toInt_lt, iI_toInt ha, iI_toInt hb]
theorem iI_le {a b : Int} (ha : rI a) (hb : rI b) : (iI a ≤ iI b) = (a ≤ b) := by
  rw [eq_iff_iff, Int32.le_iff_toInt_le, iI_toInt ha, iI_toInt hb]
theorem iI_eq {a b : Int} (ha : rI a) (hb : rI b) : (iI a = iI b) = (a = b) := by
  rw [eq_iff_iff]
  constructor
  · intro h
    rw [← iI_toInt ha, ← iI_toInt hb, h]
  · intro h; rw [h]
theorem iI_nat {a : Int} (ha : rI a) : (iI a).toNatClampNeg = a.toNat := by
  show (iI a).toInt.toNat = _
  rw [iI_toInt ha]
theorem iI_ofNat (n : Nat) : Int32.ofNat n = iI n := rfl
