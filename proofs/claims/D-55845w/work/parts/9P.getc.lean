/-! digits written -/
set_option maxRecDepth 100000
/-- the tables of digits, and the texts that are there from the start -/
def zDig (Z : aZ) : Prop := (∀ r, r < 100 → oldLd .byte Z (znm Z 1) (Int32.ofNat r) = some (Int32.ofNat (48 + r / 10)) ∧ oldLd .byte Z (znm Z 2) (Int32.ofNat r) = some (Int32.ofNat (48 + r % 10)))
theorem nNeg (n : Nat) : -(-Int32.ofNat n) = Int32.ofNat n := Int32.neg_neg
theorem nDiv {v : Nat} (hv : v < 100000) : (-Int32.ofNat v) / 100 = -Int32.ofNat (v / 100) := by
  apply Int32.toInt_inj.mp
  rw [Int32.toInt_div_of_ne_right (-Int32.ofNat v) 100 (by decide), toIn (by omega), toIn (by omega)]
  show (-(v : Int)).tdiv (100 : Int) = _
  rw [Int.neg_tdiv]
  rfl
theorem nRem {v : Nat} (hv : v < 100000) : (-Int32.ofNat v) / 100 * 100 - (-Int32.ofNat v) = Int32.ofNat (v % 100) := by
  rw [nDiv hv]
  have h1 : -Int32.ofNat (v / 100) * 100 = -Int32.ofNat (v / 100 * 100) := by
    rw [Int32.neg_mul, show (100 : Int32) = Int32.ofNat 100 from rfl, iMul]
  rw [h1]
  have h2 : -Int32.ofNat (v / 100 * 100) - -Int32.ofNat v = Int32.ofNat v - Int32.ofNat (v / 100 * 100) := by
    rw [Int32.sub_eq_add_neg, Int32.neg_neg, Int32.add_comm, ← Int32.sub_eq_add_neg]
  rw [h2, iSub (by omega), show v - v / 100 * 100 = v % 100 by omega]
theorem iPred (e : Nat) : Int32.ofNat (e + 1) + (-1) = Int32.ofNat e := by
  rw [← Int32.sub_eq_add_neg, show (1 : Int32) = Int32.ofNat 1 from rfl, iSub (by omega), Nat.add_sub_cancel]
abbrev hB (Z : aZ) (h : aH) (A : Nat) (f : Nat → Int32) : aH := hset h A (.inl (zB Z, 16, .inl f))
section gc
variable {Z : aZ} {h : aH} {A : Nat} {f : Nat → Int32}
theorem hB_st {i x : Nat} (hi : i < 16) (hz : z0 Z ≤ A) (hx : x < 128) : stB Z (hB Z h A f) A (Int32.ofNat i) (Int32.ofNat x) = some (hB Z h A (va_up f i (Int32.ofNat x))) := by
  rw [stB_of hset_at hi (by omega) hz, hset_hset, (nar_b x hx).2]
theorem gc_step {v e : Nat} (zd : zDig Z) (hz : z0 Z ≤ A) (hv : v < 100000) (h100 : 100 ≤ v) (he : e + 2 ≤ 16) : t_J18_getChars_b22 Z (-Int32.ofNat v, A, Int32.ofNat (e + 2), 0, hB Z h A f) = some (.inl (-Int32.ofNat (v / 100), A, Int32.ofNat e, 0, hB Z h A (va_up (va_up f (e + 1) (Int32.ofNat (48 + v % 10))) e (Int32.ofNat (48 + v % 100 / 10))))) := by
  unfold t_J18_getChars_b22
  dsimp only
  rw [if_neg (show ¬ (-100 : Int32) < -Int32.ofNat v from fun y => by have := (nLt (a := 100) (b := v) (by omega) (by omega)).mp y; omega), nRem hv, (zd (v % 100) (by omega)).2, Option.bind_some, iPred, hB_st (by omega) hz (by omega), Option.bind_some, (zd (v % 100) (by omega)).1, Option.bind_some, iPred, hB_st (by omega) hz (by omega), Option.bind_some, nDiv hv, show v % 100 % 10 = v % 10 by omega]
theorem gc_end1 {v e : Nat} (zd : zDig Z) (hz : z0 Z ≤ A) (hv : v < 10) (he : e + 1 ≤ 16) : t_J18_getChars_b22 Z (-Int32.ofNat v, A, Int32.ofNat (e + 1), 0, hB Z h A f) = some (.inr (Int32.ofNat e, hB Z h A (va_up f e (Int32.ofNat (48 + v))))) := by
  unfold t_J18_getChars_b22 t_J18_getChars_l72 t_J18_getChars_l104
  dsimp only
  rw [if_pos (show (-100 : Int32) < -Int32.ofNat v from (nLt (a := 100) (b := v) (by omega) (by omega)).mpr (by omega)), nNeg, (zd v (by omega)).2, Option.bind_some, iPred, hB_st (by omega) hz (by omega), Option.bind_some, if_pos (show (-9 : Int32) ≤ -Int32.ofNat v from (nLe (a := 9) (b := v) (by omega) (by omega)).mpr (by omega)), if_pos rfl, show v % 10 = v by omega]
  rfl
theorem gc_end2 {v e : Nat} (zd : zDig Z) (hz : z0 Z ≤ A) (hv : v < 100) (h10 : 10 ≤ v) (he : e + 2 ≤ 16) : t_J18_getChars_b22 Z (-Int32.ofNat v, A, Int32.ofNat (e + 2), 0, hB Z h A f) = some (.inr (Int32.ofNat e, hB Z h A (va_up (va_up f (e + 1) (Int32.ofNat (48 + v % 10))) e (Int32.ofNat (48 + v / 10))))) := by
  unfold t_J18_getChars_b22 t_J18_getChars_l72 t_J18_getChars_l104
  dsimp only
  rw [if_pos (show (-100 : Int32) < -Int32.ofNat v from (nLt (a := 100) (b := v) (by omega) (by omega)).mpr (by omega)), nNeg, (zd v (by omega)).2, Option.bind_some, iPred, hB_st (by omega) hz (by omega), Option.bind_some, if_neg (show ¬ (-9 : Int32) ≤ -Int32.ofNat v from fun y => by have := (nLe (a := 9) (b := v) (by omega) (by omega)).mp y; omega), (zd v (by omega)).1, Option.bind_some, iPred, hB_st (by omega) hz (by omega), Option.bind_some, if_pos rfl]
  rfl
end gc
