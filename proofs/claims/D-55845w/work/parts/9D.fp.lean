/-! numbers that are numbers; shares and means -/
set_option maxRecDepth 100000
def fpOk : FP.Core.Datum → Prop
  | .nan => False
  | .inf _ => True
  | .fin _ c q => c < 2 ^ 53 ∧ q ≤ 971
theorem fp_rr (s : Bool) (num den : Nat) (e : Int) : fpOk (FP.Core.roundRatio FP.Core.b64 s num den e) := by
  have qx : FP.Core.b64.qmax = 971 := by decide
  have qn : FP.Core.b64.qmin = -1074 := by decide
  have tl : FP.Core.b64.tails = 2 ^ 52 := by decide
  unfold FP.Core.roundRatio
  split
  · exact ⟨by decide, by rw [qn]; decide⟩
  · unfold FP.Core.roundAt FP.Core.settle
    split
    · rename_i h1
      unfold FP.Core.bound
      split
      · rename_i h2
        rw [qx] at h2
        exact ⟨h1, h2⟩
      · trivial
    · unfold FP.Core.bound
      split
      · rename_i h2
        rw [qx] at h2
        exact ⟨by rw [tl]; decide, h2⟩
      · trivial
theorem fp_asm {s : Bool} {e t : Nat} (he : e ≤ 2047) (ht : t < 2 ^ 52) (h : e = 2047 → t = 0) : FP.Core.assemble FP.Core.b64 s e t < 2 ^ 64 ∧ FP.Core.assemble FP.Core.b64 s e t % 2 ^ 63 ≤ 2047 * 2 ^ 52 := by
  have tl : FP.Core.b64.tails = 2 ^ 52 := by decide
  have ex : FP.Core.b64.exps = 2 ^ 11 := by decide
  unfold FP.Core.assemble
  rw [tl, ex]
  cases s
  · simp only [Bool.toNat_false]
    refine ⟨by omega, ?_⟩
    rw [Nat.mod_eq_of_lt (by omega)]
    by_cases z : e = 2047
    · rw [h z, z]; decide
    · omega
  · simp only [Bool.toNat_true]
    refine ⟨by omega, ?_⟩
    have : (1 * 2 ^ 11 + e) * 2 ^ 52 + t = e * 2 ^ 52 + t + 2 ^ 63 := by omega
    rw [this, Nat.add_mod_right, Nat.mod_eq_of_lt (by omega)]
    by_cases z : e = 2047
    · rw [h z, z]; decide
    · omega
theorem fp_enc {D : FP.Core.Datum} (h : fpOk D) : FP.Core.encode FP.Core.b64 D < 2 ^ 64 ∧ FP.Core.encode FP.Core.b64 D % 2 ^ 63 ≤ 2047 * 2 ^ 52 := by
  have tl : FP.Core.b64.tails = 2 ^ 52 := by decide
  have ex : FP.Core.b64.exps = 2 ^ 11 := by decide
  have qn : FP.Core.b64.qmin = -1074 := by decide
  match D with
  | .nan => exact h.elim
  | .inf s =>
    unfold FP.Core.encode
    dsimp only
    exact fp_asm (by rw [ex]; decide) (by decide) (fun _ => rfl)
  | .fin s c q =>
    obtain ⟨h1, h2⟩ := h
    unfold FP.Core.encode
    dsimp only
    rw [tl, qn]
    split
    · rename_i h3
      exact fp_asm (by omega) h3 (fun z => by omega)
    · rename_i h3
      exact fp_asm (by omega) (by omega) (fun z => by omega)
theorem fp_dec {n : Nat} (h1 : n < 2 ^ 64) (h2 : n % 2 ^ 63 ≤ 2047 * 2 ^ 52) : FP.Core.decode FP.Core.b64 n ≠ .nan := by
  have tl : FP.Core.b64.tails = 2 ^ 52 := by decide
  have ex : FP.Core.b64.exps = 2 ^ 11 := by decide
  unfold FP.Core.decode FP.Core.fieldE FP.Core.fieldT
  rw [tl, ex]
  split
  · rename_i h3
    split
    · exact fun z => by cases z
    · rename_i h4
      exfalso
      omega
  · split
    · exact fun z => by cases z
    · exact fun z => by cases z
theorem fp_n {n : Nat} (h1 : n < 2 ^ 64) (h2 : n % 2 ^ 63 ≤ 2047 * 2 ^ 52) : UInt64.ofNat n &&& 0x7fffffffffffffff ≤ 0x7ff0000000000000 := by
  rw [UInt64.le_iff_toNat_le, UInt64.toNat_and, UInt64.toNat_ofNat_of_lt' h1]
  have : (0x7fffffffffffffff : UInt64).toNat = 2 ^ 63 - 1 := by decide
  rw [this, Nat.and_two_pow_sub_one_eq_mod]
  have : (0x7ff0000000000000 : UInt64).toNat = 2047 * 2 ^ 52 := by decide
  rw [this]
  exact h2
theorem fp_i2d (x : Int32) : (FP.i2d x).toNat < 2 ^ 64 ∧ (FP.i2d x).toNat % 2 ^ 63 ≤ 2047 * 2 ^ 52 := by
  have := fp_enc (D := FP.Core.round FP.Core.b64 (FP.Core.ofInt x.toInt)) (by unfold FP.Core.ofInt FP.Core.round; exact fp_rr _ _ _ _)
  unfold FP.i2d FP.Core.i2d FP.Core.fromInt
  rw [UInt64.toNat_ofNat_of_lt' this.1]
  exact this
theorem fp_den : ∀ n, n < 5 → ∃ s c q, FP.Core.decode FP.Core.b64 (FP.i2d (Int32.ofNat (n + 1))).toNat = .fin s c q ∧ c ≠ 0 := by
  have key : ∀ n, n < 5 → (match FP.Core.decode FP.Core.b64 (FP.i2d (Int32.ofNat (n + 1))).toNat with | .fin _ c _ => decide (c ≠ 0) | _ => false) = true := by decide +kernel
  intro n hn
  have := key n hn
  generalize FP.Core.decode FP.Core.b64 (FP.i2d (Int32.ofNat (n + 1))).toNat = D at this
  match D with
  | .nan => cases this
  | .inf _ => cases this
  | .fin s c q => exact ⟨s, c, q, rfl, by simpa using this⟩
theorem fp_div (x : Int32) {n : Nat} (hn : n < 5) : (FP.ddiv (FP.i2d x) (FP.i2d (Int32.ofNat (n + 1)))) &&& 0x7fffffffffffffff ≤ 0x7ff0000000000000 := by
  obtain ⟨s, c, q, e1, e2⟩ := fp_den n hn
  have hx := fp_dec (fp_i2d x).1 (fp_i2d x).2
  have : fpOk (FP.Core.quotient FP.Core.b64 (FP.Core.decode FP.Core.b64 (FP.i2d x).toNat) (FP.Core.decode FP.Core.b64 (FP.i2d (Int32.ofNat (n + 1))).toNat)) := by
    rw [e1]
    generalize FP.Core.decode FP.Core.b64 (FP.i2d x).toNat = D at hx
    match D with
    | .nan => exact absurd rfl hx
    | .inf _ => trivial
    | .fin s' c' q' =>
      unfold FP.Core.quotient
      dsimp only
      rw [if_neg e2]
      exact fp_rr _ _ _ _
  have := fp_enc this
  unfold FP.ddiv FP.Core.ddiv FP.Core.div
  exact fp_n this.1 this.2
theorem fp_share : ∀ g, g < 25 → (FP.fdiv (FP.i2f (Int32.ofNat g)) 1103101952) &&& 0x7fffffff ≤ 0x7f800000 ∧ (FP.f2d (FP.fdiv (FP.i2f (Int32.ofNat g)) 1103101952)) &&& 0x7fffffffffffffff ≤ 0x7ff0000000000000 := by decide +kernel
theorem gapsI_n (m : Nat → Int32) : ∃ g, g < 25 ∧ gapsI m = Int32.ofNat g := by
  have key : ∀ n, ∃ g, g ≤ n ∧ foldN (fun k acc => acc + (if m (6 + k) < 5 then 1 else 0)) n 0 = Int32.ofNat g := by
    intro n
    induction n with
    | zero => exact ⟨0, by omega, rfl⟩
    | succ n ih =>
      obtain ⟨g, h1, h2⟩ := ih
      show ∃ g, g ≤ n + 1 ∧ foldN (fun k acc => acc + (if m (6 + k) < 5 then 1 else 0)) n 0 + (if m (6 + n) < 5 then 1 else 0) = Int32.ofNat g
      rw [h2]
      split
      · exact ⟨g + 1, by omega, iAdd1 g⟩
      · exact ⟨g, by omega, iAdd0 _⟩
  obtain ⟨g, h1, h2⟩ := key 24
  exact ⟨g, by omega, h2⟩
