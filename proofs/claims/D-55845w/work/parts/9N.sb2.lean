/-! the builder, 2 -/
set_option maxRecDepth 100000
section sb
variable {Z : aZ} {h h' H : aH} {W Wv : Nat} {mb : Int32} {N : Nat} {f : Nat → Int32}
theorem bu_len (sb : sbAt Z h W Wv mb N f) : t_J4_length Z h W = some (Int32.ofNat N, h) := by
  unfold t_J4_length t_J3_length
  rw [if_pos (isC_of sb.1), gI_of (k := 3) sb.1 rfl]; rfl
theorem bu_set0 (k : hOk Z h) (sb : sbAt Z h W Wv mb N f) (hz : z0 Z ≤ W) (hN : N ≤ 16) : Ok (t_J4_setLength Z h W 0) (fun r => (∃ mb', sbAt Z r.2 W Wv mb' 0 f) ∧ hOk Z r.2 ∧ Fr (fun a => a = W ∨ a = Wv) h r.2 0) := by
  obtain ⟨s1, s2⟩ := id sb
  have hne : W ≠ Wv := ent_ne s1 s2 (fun z => by cases z)
  have hW := k.2.1 _ _ s1
  unfold t_J4_setLength t_J3_setLength t_J3_setLength_l76
  rw [if_pos (isC_of s1), if_pos (by decide), if_pos (isC_of s1), show t_J3_ensureCapacityInternal Z h W 0 = some ((), h) from bu_cap sb (n := 0) (by omega), Option.bind_some]
  dsimp only
  rw [gI_of (k := 3) s1 rfl, Option.bind_some, if_pos (show (0 : Int32) ≤ Int32.ofNat N from Int32.zero_le_ofNat_of_lt (by omega)), Option.bind_some]
  by_cases z : N = 0
  · subst z
    rw [if_pos (by decide), pF_of s1 (Nat.le_of_ble_eq_true rfl) hz, Option.bind_some, Option.bind_some]
    exact Ok.ret ⟨⟨mb, by rw [sbAt, hset_at]; exact ⟨rfl, by rw [hset_ne hne.symm]; exact s2⟩⟩, k.set hz hW, Fr.set (Or.inl rfl)⟩
  · rw [if_neg (show ¬ Int32.ofNat N ≤ 0 from fun y => by have := (iLe (b := 0) (by omega) (by omega)).mp y; omega), pF_of s1 (Nat.le_of_ble_eq_true rfl) hz, Option.bind_some, pF_of hset_at (Nat.le_of_ble_eq_true rfl) hz, Option.bind_some, hset_hset, Option.bind_some]
    exact Ok.ret ⟨⟨1, by rw [sbAt, hset_at]; exact ⟨rfl, by rw [hset_ne hne.symm]; exact s2⟩⟩, k.set hz hW, Fr.set (Or.inl rfl)⟩
theorem ch_b : ∀ n, n < 128 → (((Int32.ofNat n &&& 255 : Int32).toUInt32 % 65536).toInt32) = Int32.ofNat n ∧ 0 ≤ Int32.ofNat n ∧ Int32.ofNat n ≤ 65535 := by decide +kernel
theorem bu_at (sb : sbAt Z h W Wv mb N f) (hN : N ≤ 16) {i x : Nat} (hi : i < N) (hx : x < 128) (hf : f i = Int32.ofNat x) : t_J4_charAt Z h W (Int32.ofNat i) = some (Int32.ofNat x, h) := by
  obtain ⟨s1, s2⟩ := id sb
  obtain ⟨b1, b2, b3⟩ := ch_b x hx
  unfold t_J4_charAt t_J3_charAt t_J5_checkIndex
  have key : ∀ N, N ≤ 16 → jmin (Int32.ofNat N) (Int32.ofNat 16 >>> ((0 : Int32) &&& 31)) = Int32.ofNat N := by decide +kernel
  rw [if_pos (isC_of s1), gI_of (k := 1) s1 rfl, Option.bind_some, gA_of (k := 0) s1 rfl, Option.bind_some, gI_of (k := 3) s1 rfl, Option.bind_some, alen_B s2, Option.bind_some, key N hN]
  have hc : ∀ a, t_J16_checkIndex_a (Int32.ofNat i) (Int32.ofNat N) a = some (Int32.ofNat i) := by
    intro a
    unfold t_J16_checkIndex_a
    rw [if_neg (iNeg0 (by omega)), if_pos ((iLt (by omega) (by omega)).mpr hi)]
  have hc' : t_J16_checkIndex_n (Int32.ofNat i) (Int32.ofNat N) = some (Int32.ofNat i) := by
    unfold t_J16_checkIndex_n
    rw [if_neg (iNeg0 (by omega)), if_pos ((iLt (by omega) (by omega)).mpr hi)]
  cases znq Z 2 with
  | none =>
    dsimp only
    rw [hc', Option.bind_some, Option.bind_some, if_pos rfl, ldB_of s2 (by omega) (by omega), Option.bind_some, hf, b1, if_pos ⟨b2, b3⟩, Option.bind_some, if_pos ⟨b2, b3⟩]
  | some a =>
    dsimp only
    rw [hc, Option.bind_some, Option.bind_some, if_pos rfl, ldB_of s2 (by omega) (by omega), Option.bind_some, hf, b1, if_pos ⟨b2, b3⟩, Option.bind_some, if_pos ⟨b2, b3⟩]
end sb
