/-! small naturals as ints -/
theorem i_toInt {n : Nat} (h : n < 2147483648) : (Int32.ofNat n).toInt = (n : Int) := by
  rw [Int32.toInt_ofNat']
  have e : Int32.size = 4294967296 := rfl
  exact Int.bmod_eq_of_le (by omega) (by omega)
theorem i_nat {n : Nat} (h : n < 2147483648) : (Int32.ofNat n).toNatClampNeg = n := by
  show (Int32.ofNat n).toInt.toNat = n
  rw [i_toInt h]
  rfl
theorem i_lt {a b : Nat} (ha : a < 2147483648) (hb : b < 2147483648) : Int32.ofNat a < Int32.ofNat b ↔ a < b := by
  rw [Int32.lt_iff_toInt_lt, i_toInt ha, i_toInt hb]
  omega
theorem i_le {a b : Nat} (ha : a < 2147483648) (hb : b < 2147483648) : Int32.ofNat a ≤ Int32.ofNat b ↔ a ≤ b := by
  rw [Int32.le_iff_toInt_le, i_toInt ha, i_toInt hb]
  omega
theorem i_eq {a b : Nat} (ha : a < 2147483648) (hb : b < 2147483648) : Int32.ofNat a = Int32.ofNat b ↔ a = b := by
  constructor
  · intro h
    have := congrArg Int32.toInt h
    rw [i_toInt ha, i_toInt hb] at this
    omega
  · rintro rfl; rfl
theorem i_neg {n : Nat} (h : n < 2147483648) : ¬ Int32.ofNat n < 0 := by
  rw [show (0 : Int32) = Int32.ofNat 0 from rfl, i_lt h (by omega)]
  omega
theorem i_add (a b : Nat) : Int32.ofNat a + Int32.ofNat b = Int32.ofNat (a + b) := (Int32.ofNat_add a b).symm
theorem i_sub {a b : Nat} (h : b ≤ a) : Int32.ofNat a - Int32.ofNat b = Int32.ofNat (a - b) := by
  have : Int32.ofNat a = Int32.ofNat (a - b) + Int32.ofNat b := by rw [i_add, Nat.sub_add_cancel h]
  rw [this, Int32.add_sub_cancel]
theorem i_mul (a b : Nat) : Int32.ofNat a * Int32.ofNat b = Int32.ofNat (a * b) := (Int32.ofNat_mul a b).symm
/-- an int that isn't negative is a natural's -/
theorem i_of {v : Int32} (h : ¬ v < 0) : v = Int32.ofNat v.toNatClampNeg ∧ v.toNatClampNeg < 2147483648 := by
  have h0 : 0 ≤ v.toInt := by
    rw [Int32.lt_iff_toInt_lt] at h
    have : (0 : Int32).toInt = 0 := rfl
    omega
  have h1 : v.toInt < 2147483648 := Int32.toInt_lt v
  have h2 : v.toNatClampNeg < 2147483648 := by
    show v.toInt.toNat < _
    omega
  refine ⟨Int32.toInt_inj.mp ?_, h2⟩
  rw [i_toInt h2]
  show v.toInt = (v.toInt.toNat : Int)
  omega
