/-! WHOLE NUMBERS AS INTS -/
def z (a : Int) : Int32 := Int32.ofInt a
def rg (a : Int) : Prop := -2147483648 ≤ a ∧ a < 2147483648
theorem z_toInt {a : Int} (h : rg a) : (z a).toInt = a := by
  unfold z
  rw [Int32.toInt_ofInt]
  have e : (Int32.size : Int) = 4294967296 := rfl
  exact Int.bmod_eq_of_le (by have := h.1; omega) (by have := h.2; omega)
theorem z_of (x : Int32) : z x.toInt = x := Int32.ofInt_toInt x
theorem z_rg (x : Int32) : rg x.toInt := ⟨Int32.le_toInt x, Int32.toInt_lt x⟩
theorem z_add (a b : Int) : z a + z b = z (a + b) := (Int32.ofInt_add a b).symm
theorem z_sub (a b : Int) : z a - z b = z (a - b) := (Int32.ofInt_sub a b).symm
theorem z_mul (a b : Int) : z a * z b = z (a * b) := (Int32.ofInt_mul a b).symm
theorem z_lt {a b : Int} (ha : rg a) (hb : rg b) : (z a < z b) ↔ a < b := by rw [Int32.lt_iff_toInt_lt, z_toInt ha, z_toInt hb]
theorem z_le {a b : Int} (ha : rg a) (hb : rg b) : (z a ≤ z b) ↔ a ≤ b := by rw [Int32.le_iff_toInt_le, z_toInt ha, z_toInt hb]
theorem z_eq {a b : Int} (ha : rg a) (hb : rg b) : (z a = z b) ↔ a = b := ⟨fun h => by rw [← z_toInt ha, ← z_toInt hb, h], fun h => by rw [h]⟩
theorem z_ix {a : Int} (ha : rg a) : (z a).toNatClampNeg = a.toNat := by
  show (z a).toInt.toNat = _
  rw [z_toInt ha]
theorem z_lit (n : Nat) : (no_index (OfNat.ofNat n) : Int32) = z ((OfNat.ofNat n : Nat) : Int) := rfl
theorem z_m1 : (-1 : Int32) = z (-1) := rfl
theorem z_m2 : (-2 : Int32) = z (-2) := rfl
