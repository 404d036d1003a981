/-! the builder -/
set_option maxRecDepth 100000
section sb
variable {Z : aZ} {h h' H : aH} {W Wv : Nat} {mb : Int32} {N : Nat} {f : Nat → Int32}
theorem alen_B {a n : Nat} {f : Nat → Int32} (e : h.1 a = some (.inl (zB Z, n, .inl f))) : alen Z h a = some (Int32.ofNat n) := by simp [alen, e]
theorem stB_of {a n i : Nat} {f : Nat → Int32} {x : Int32} (e : h.1 a = some (.inl (zB Z, n, .inl f))) (hi : i < n) (hs : i < 2147483648) (hz : z0 Z ≤ a) : stB Z h a (Int32.ofNat i) x = some (hset h a (.inl (zB Z, n, .inl (va_up f i (vp_nar .byte x))))) := by
  unfold stB
  rw [e]
  dsimp only
  rw [if_pos ⟨rfl, inb_of hi hs, hz⟩, iNat hs]
theorem ldB_of {a n i : Nat} {f : Nat → Int32} (e : h.1 a = some (.inl (zB Z, n, .inl f))) (hi : i < n) (hs : i < 2147483648) : ldB Z h a (Int32.ofNat i) = some (f i) := by
  unfold ldB
  rw [e]
  dsimp only
  rw [if_pos ⟨rfl, inb_of hi hs⟩, iNat hs]
theorem nar_b : ∀ n, n < 128 → vp_nar .byte ((Int32.ofNat n).toInt8.toInt32) = Int32.ofNat n ∧ vp_nar .byte (Int32.ofNat n) = Int32.ofNat n := by decide +kernel
theorem bu_cap (sb : sbAt Z h W Wv mb N f) {n : Nat} (hn : n ≤ 16) : t_J3_ensureCapacityInternal Z h W (Int32.ofNat n) = some ((), h) := by
  unfold t_J3_ensureCapacityInternal
  rw [gA_of (k := 0) sb.1 rfl, Option.bind_some, alen_B sb.2, Option.bind_some, gI_of (k := 1) sb.1 rfl, Option.bind_some]
  have key : ∀ n, n ≤ 16 → Int32.ofNat n - (Int32.ofNat 16 >>> ((0 : Int32) &&& 31)) ≤ 0 := by decide +kernel
  rw [if_pos (key n hn)]
theorem bu_ch (k : hOk Z h) (sb : sbAt Z h W Wv mb N f) (hz : z0 Z ≤ W) (hv : z0 Z ≤ Wv) (hN : N < 16) {x : Nat} (hx : x < 128) : Ok (t_J4_append_3 Z h W (Int32.ofNat x)) (fun r => r.1 = W ∧ sbAt Z r.2 W Wv mb (N + 1) (va_up f N (Int32.ofNat x)) ∧ hOk Z r.2 ∧ Fr (fun a => a = W ∨ a = Wv) h r.2 0) := by
  obtain ⟨s1, s2⟩ := id sb
  have hne : W ≠ Wv := ent_ne s1 s2 (fun z => by cases z)
  have hW := k.2.1 _ _ s1
  have hWv := k.2.1 _ _ s2
  unfold t_J4_append_3 t_J3_append_3 t_J3_isLatin1 t_J23_canEncode_2
  rw [if_pos (isC_of s1), gI_of (k := 3) s1 rfl, Option.bind_some, if_pos (isC_of s1), iAdd1, bu_cap sb (by omega), Option.bind_some]
  dsimp only
  rw [if_pos (isC_of s1), if_neg (by decide), gI_of (k := 1) s1 rfl, Option.bind_some, if_pos rfl, Option.bind_some]
  dsimp only
  rw [if_neg (by decide), if_neg (show ¬ (255 : Int32) < Int32.ofNat x from fun y => by have := (iLt (a := 255) (by omega) (by omega)).mp y; omega), Option.bind_some, if_neg (by decide), gA_of (k := 0) s1 rfl, Option.bind_some, gI_of (k := 3) s1 rfl, Option.bind_some, pF_of s1 (Nat.le_of_ble_eq_true rfl) hz, Option.bind_some, stB_of (by rw [hset_ne hne.symm]; exact s2) hN (by omega) hv, Option.bind_some, Option.bind_some, (nar_b x hx).1]
  refine Ok.ret ⟨rfl, ⟨by rw [hset_ne hne, hset_at, iAdd1]; rfl, hset_at⟩, (k.set hz hW).set hv hWv, (Fr.set (S := fun a => a = W ∨ a = Wv) (Or.inl rfl)).tr (Fr.set (S := fun a => a = W ∨ a = Wv) (Or.inr rfl)) (fun _ _ z => z)⟩
end sb
