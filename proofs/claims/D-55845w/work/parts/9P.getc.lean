/-! digits written -/
set_option maxRecDepth 100000
/-- the tables of digits, and the texts that are there from the start -/
def zDig (Z : aZ) : Prop := (∀ r, r < 100 → oldLd .byte Z (znm Z 1) (Int32.ofNat r) = some (Int32.ofNat (48 + r / 10)) ∧ oldLd .byte Z (znm Z 2) (Int32.ofNat r) = some (Int32.ofNat (48 + r % 10)))
theorem nNeg (n : Nat) : -(-Int32.ofNat n) = Int32.ofNat n := Int32.neg_neg
theorem nDiv {v : Nat} (hv : v < 100000) : (-Int32.ofNat v) / 100 = -Int32.ofNat (v / 100) := by
  apply Int32.toInt_inj.mp
  rw [Int32.toInt_div_of_ne_right (-Int32.ofNat v) 100 (by decide), toIn (by omega), toIn (by omega)]
  show (-(v : Int)).tdiv (100 : Int) = _
  rw [Int.neg_tdiv]
  rfl
theorem nRem {v : Nat} (hv : v < 100000) : (-Int32.ofNat v) / 100 * 100 - (-Int32.ofNat v) = Int32.ofNat (v % 100) := by
  rw [nDiv hv]
  have h1 : -Int32.ofNat (v / 100) * 100 = -Int32.ofNat (v / 100 * 100) := by
    rw [Int32.neg_mul, show (100 : Int32) = Int32.ofNat 100 from rfl, iMul]
  rw [h1]
  have h2 : -Int32.ofNat (v / 100 * 100) - -Int32.ofNat v = Int32.ofNat v - Int32.ofNat (v / 100 * 100) := by
    rw [Int32.sub_eq_add_neg, Int32.neg_neg, Int32.add_comm, ← Int32.sub_eq_add_neg]
  rw [h2, iSub (by omega), show v - v / 100 * 100 = v % 100 by omega]
