/-! digits -/
set_option maxRecDepth 100000
def dgs (v : Nat) : Nat := if v < 10 then 1 else if v < 100 then 2 else if v < 1000 then 3 else if v < 10000 then 4 else 5
theorem iNegI (n : Nat) : -Int32.ofNat n = Int32.ofInt (-(n : Int)) := by
  rw [Int32.ofInt_neg]
  rfl
theorem toI {n : Nat} (h : n < 2147483648) : (Int32.ofNat n).toInt = n := Int32.toInt_ofNat_of_lt (by omega)
theorem toIn {n : Nat} (h : n < 2147483648) : (-Int32.ofNat n).toInt = -(n : Int) := by
  rw [Int32.toInt_neg, toI h]
  rw [Int.bmod_eq_of_le (by omega) (by omega)]
theorem nLe {a b : Nat} (ha : a < 2147483648) (hb : b < 2147483648) : -Int32.ofNat a ≤ -Int32.ofNat b ↔ b ≤ a := by
  rw [Int32.le_iff_toInt_le, toIn ha, toIn hb]
  omega
theorem nLt {a b : Nat} (ha : a < 2147483648) (hb : b < 2147483648) : -Int32.ofNat a < -Int32.ofNat b ↔ b < a := by
  rw [Int32.lt_iff_toInt_lt, toIn ha, toIn hb]
  omega
theorem ss_of {v : Nat} (hv : v < 100000) : t_J18_stringSize (Int32.ofNat v) = some (Int32.ofNat (dgs v)) := by
  unfold t_J18_stringSize t_J18_stringSize_l11
  rw [if_neg (iNeg0 (by omega))]
  have st : ∀ p i, p < 2147483648 → i < 10 → t_J18_stringSize_b16 (-Int32.ofNat v, 0, -Int32.ofNat p, Int32.ofNat i) = some (if p ≤ v then .inl (-Int32.ofNat v, 0, 10 * -Int32.ofNat p, Int32.ofNat (i + 1)) else .inr (Int32.ofNat i)) := by
    intro p i hp hi
    unfold t_J18_stringSize_b16
    dsimp only
    rw [if_neg (show ¬ (10 : Int32) ≤ Int32.ofNat i from fun y => by have := (iLe (a := 10) (by omega) (by omega)).mp y; omega), iAdd0, iAdd1]
    by_cases z : p ≤ v
    · rw [if_pos ((nLe (by omega) hp).mpr z), if_pos z]
    · rw [if_neg (fun y => z ((nLe (by omega) hp).mp y)), if_neg z]
  have e1 : (10 : Int32) * -Int32.ofNat 10 = -Int32.ofNat 100 := by decide
  have e2 : (10 : Int32) * -Int32.ofNat 100 = -Int32.ofNat 1000 := by decide
  have e3 : (10 : Int32) * -Int32.ofNat 1000 = -Int32.ofNat 10000 := by decide
  have e4 : (10 : Int32) * -Int32.ofNat 10000 = -Int32.ofNat 100000 := by decide
  have go : ∀ n p i, p < 2147483648 → i < 10 → wlo t_J18_stringSize_b16 (n + 1) (-Int32.ofNat v, 0, -Int32.ofNat p, Int32.ofNat i) = if p ≤ v then wlo t_J18_stringSize_b16 n (-Int32.ofNat v, 0, 10 * -Int32.ofNat p, Int32.ofNat (i + 1)) else some (Int32.ofNat i) := by
    intro n p i hp hi
    rw [wlo]
    rw [st p i hp hi]
    by_cases z : p ≤ v
    · rw [if_pos z, if_pos z]
    · rw [if_neg z, if_neg z]
  show wlo t_J18_stringSize_b16 (99 + 1) (-Int32.ofNat v, 0, -Int32.ofNat 10, Int32.ofNat 1) = _
  rw [go 99 10 1 (by omega) (by omega), e1, go 98 100 2 (by omega) (by omega), e2, go 97 1000 3 (by omega) (by omega), e3, go 96 10000 4 (by omega) (by omega), e4, go 95 100000 5 (by omega) (by omega)]
  unfold dgs
  by_cases z1 : v < 10
  · rw [if_neg (by omega), if_pos z1]
  rw [if_pos (by omega), if_neg z1]
  by_cases z2 : v < 100
  · rw [if_neg (by omega), if_pos z2]
  rw [if_pos (by omega), if_neg z2]
  by_cases z3 : v < 1000
  · rw [if_neg (by omega), if_pos z3]
  rw [if_pos (by omega), if_neg z3]
  by_cases z4 : v < 10000
  · rw [if_neg (by omega), if_pos z4]
  rw [if_pos (by omega), if_neg z4, if_neg (by omega)]
