/-! lists and their iterators; what is refused (written by gen/mklist.py) -/
set_option maxRecDepth 100000
theorem pF_new {ci k : Nat} {Z : aZ} {h : aH} {fs : List Value} {v : Value} {n : Nat} (hk : k < fs.length) (hz : z0 Z ≤ h.2.1) : pF ci k Z (hnew h (.inr (ci, fs)) n) h.2.1 v = some (hnew h (.inr (ci, fs.set k v)) n) := by
  rw [pF_of hnew_at hk hz, hset_hnew]
theorem ent_ne {h : aH} {a b : Nat} {e e' : va_E} (h1 : h.1 a = some e) (h2 : h.1 b = some e') (hn : e ≠ e') : a ≠ b := by
  rintro rfl
  rw [h1] at h2
  exact hn (Option.some.inj h2)
abbrev rArr (n : Nat) (Z : aZ) (f : Nat → Option Nat) : va_E := .inl (zO Z, n, .inr (.inr (.inr (.inr f))))
/-- the list at l: its count of changes, its row, its size, what is in it -/
def lstAt (Z : aZ) (h : aH) (l : Nat) (mc : Int32) (e n : Nat) (as : Nat → Nat) : Prop := h.1 l = some (.inr (8, [.int mc, .ref e, .int (Int32.ofNat n)])) ∧ z0 Z ≤ l ∧ ((e = znm Z 0 ∧ n = 0) ∨ (z0 Z ≤ e ∧ n ≤ 10 ∧ ∃ f, h.1 e = some (rArr 10 Z f) ∧ ∀ j, j < n → f j = some (as j)))
theorem lstAt.lt {Z : aZ} {h : aH} {l : Nat} {mc : Int32} {e n : Nat} {as : Nat → Nat} (l9 : lstAt Z h l mc e n as) : n ≤ 10 := by
  rcases l9.2.2 with ⟨-, q⟩ | ⟨-, q, -⟩ <;> omega
theorem lstAt.isC {Z : aZ} {h : aH} {l : Nat} {mc : Int32} {e n : Nat} {as : Nat → Nat} (l9 : lstAt Z h l mc e n as) : isC 8 h l = true := isC_of l9.1
theorem lstAt.size {Z : aZ} {h : aH} {l : Nat} {mc : Int32} {e n : Nat} {as : Nat → Nat} (l9 : lstAt Z h l mc e n as) : t_J2_size Z h l = some (Int32.ofNat n, h) := by
  unfold t_J2_size
  rw [gI_of (k := 2) l9.1 rfl]; rfl
theorem lstAt.get {Z : aZ} {h : aH} {l : Nat} {mc : Int32} {e n : Nat} {as : Nat → Nat} (l9 : lstAt Z h l mc e n as) {i : Nat} (hi : i < n) : t_J2_get Z h l (Int32.ofNat i) = some (as i, h) := by
  have hn := l9.lt
  obtain ⟨h1, hz, ⟨-, h0⟩ | ⟨-, -, f, h2, h3⟩⟩ := id l9
  · omega
  · unfold t_J2_get t_J15_checkIndex t_J16_checkIndex_n t_J2_elementData
    rw [gI_of (k := 2) h1 rfl, Option.bind_some, if_neg (iNeg0 (by omega)), if_pos ((iLt (by omega) (by omega)).mpr hi), Option.bind_some, Option.bind_some, if_pos l9.isC, gA_of (k := 1) h1 rfl, Option.bind_some, ldX_of h2 (by omega) (by omega) (h3 i hi)]
    rfl
theorem lstAt.keep {Z : aZ} {h h' : aH} {l : Nat} {mc : Int32} {e n : Nat} {as : Nat → Nat} (l9 : lstAt Z h l mc e n as) (h1 : h'.1 l = h.1 l) (h2 : z0 Z ≤ e → h'.1 e = h.1 e) : lstAt Z h' l mc e n as := by
  obtain ⟨g1, g2, g3 | ⟨g3, g4, f, g5, g6⟩⟩ := l9
  · exact ⟨by rw [h1]; exact g1, g2, Or.inl g3⟩
  · exact ⟨by rw [h1]; exact g1, g2, Or.inr ⟨g3, g4, f, by rw [h2 g3]; exact g5, g6⟩⟩
theorem lstAt.ne {Z : aZ} {h : aH} {l : Nat} {mc : Int32} {e n : Nat} {as : Nat → Nat} (k : hOk Z h) (l9 : lstAt Z h l mc e n as) : e ≠ l := by
  obtain ⟨g1, g2, ⟨g3, -⟩ | ⟨g3, g4, f, g5, g6⟩⟩ := l9
  · have := k.2.2.1; omega
  · exact ent_ne g5 g1 (fun q => by cases q)
theorem lst_add1 {Z : aZ} {h : aH} {l a : Nat} {mc : Int32} {e n : Nat} {as : Nat → Nat} {fs : List Value} (k : hOk Z h) (r : Rm Z h 1) (l9 : lstAt Z h l mc e n as) (hn : n < 10) (ha : h.1 a = some (.inr (1, fs))) :
    Ok (t_J2_add_1 Z h l a) (fun r => ∃ e', r.1 = 1 ∧ lstAt Z r.2 l (mc + 1) e' (n + 1) (va_up as n a) ∧ ((e' = e ∧ z0 Z ≤ e) ∨ e' = h.2.1) ∧ Fr (fun x => x = l ∨ (x = e ∧ z0 Z ≤ e)) h r.2 1 ∧ hOk Z r.2) := by
  have hne := l9.ne k
  have hal : a ≠ l := ent_ne ha l9.1 (fun q => by cases q)
  obtain ⟨h1, hz, hcase⟩ := id l9
  have hll := k.2.1 l _ h1
  unfold t_J2_add_1
  rw [gI_of (k := 0) h1 rfl, Option.bind_some, pF_of h1 (Nat.le_of_ble_eq_true rfl) hz, Option.bind_some]
  generalize hh4 : hset h l (.inr (8, [Value.int mc, Value.ref e, Value.int (Int32.ofNat n)].set 0 (Value.int (mc + 1)))) = h4
  have a4 : h4.1 l = some (.inr (8, [Value.int (mc + 1), Value.ref e, Value.int (Int32.ofNat n)])) := by rw [← hh4]; exact hset_at
  have o4 : ∀ x, x ≠ l → h4.1 x = h.1 x := fun x hx => by rw [← hh4]; exact hset_ne hx
  have n4 : h4.2 = h.2 := by rw [← hh4]; rfl
  have k4 : hOk Z h4 := by rw [← hh4]; exact k.set hz hll
  rw [gA_of (k := 1) a4 rfl, Option.bind_some, gI_of (k := 2) a4 rfl, Option.bind_some, if_pos (isC_of a4)]
  unfold t_J2_add_2_1
  rcases hcase with ⟨he, h0⟩ | ⟨hze, -, f, h2, h3⟩
  · subst h0
    have hst : h4.1 e = some (rArr 0 Z fun _ => none) := by rw [he]; exact k4.2.2.2
    rw [alen_O hst, Option.bind_some, if_pos rfl, if_pos (isC_of a4)]
    unfold t_J2_grow t_J2_grow_2
    rw [gI_of (k := 2) a4 rfl, Option.bind_some, if_pos (isC_of a4), gA_of (k := 1) a4 rfl, Option.bind_some, alen_O hst, Option.bind_some, if_neg (by decide), Option.bind_some, if_pos he]
    have e10 : jmax 10 (Int32.ofNat 0 + 1) = Int32.ofNat 10 := by decide
    have r4 : Rm Z h4 1 := by unfold Rm; rw [n4]; exact r
    rw [e10, nwA_of r4 (by omega), Option.bind_some]
    have hl4 : l ≠ h4.2.1 := by have := k4.2.1 l _ a4; omega
    have a5 : (hnew h4 (rArr 10 Z fun _ => none) 10).1 l = some (.inr (8, [Value.int (mc + 1), Value.ref e, Value.int (Int32.ofNat 0)])) := by rw [hnew_ne hl4]; exact a4
    rw [pF_of a5 (Nat.le_of_ble_eq_true rfl) hz, Option.bind_some, Option.bind_some, Option.bind_some]
    dsimp only
    generalize hh6 : hset (hnew h4 (rArr 10 Z fun _ => none) 10) l (.inr (8, [Value.int (mc + 1), Value.ref e, Value.int (Int32.ofNat 0)].set 1 (Value.ref h4.2.1))) = h6
    have a6 : h6.1 l = some (.inr (8, [Value.int (mc + 1), Value.ref h4.2.1, Value.int (Int32.ofNat 0)])) := by rw [← hh6]; exact hset_at
    have b6 : h6.1 h4.2.1 = some (rArr 10 Z fun _ => none) := by rw [← hh6, hset_ne (Ne.symm hl4)]; exact hnew_at
    have o6 : ∀ x, x ≠ l → x ≠ h4.2.1 → h6.1 x = h.1 x := fun x hx hy => by rw [← hh6, hset_ne hx, hnew_ne hy]; exact o4 x hx
    have n6 : h6.2.1 = h.2.1 + 1 ∧ h6.2.2 = h.2.2 + 10 := by rw [← hh6, ← hh4]; exact ⟨rfl, rfl⟩
    have k6 : hOk Z h6 := by rw [← hh6]; exact k4.new.set hz (by rw [hnew_n, n4]; omega)
    have haa := k.2.1 a _ ha
    unfold t_J2_add_2_1_l11
    rw [if_pos (isC_of (by rw [o6 a hal (by rw [n4]; omega)]; exact ha)), stR_of b6 (by omega) (by omega) k4.1, Option.bind_some]
    have a7 : (hset h6 h4.2.1 (rArr 10 Z (va_up (fun _ => none) 0 (some a)))).1 l = some (.inr (8, [Value.int (mc + 1), Value.ref h4.2.1, Value.int (Int32.ofNat 0)])) := by rw [hset_ne hl4]; exact a6
    rw [pF_of a7 (Nat.le_of_ble_eq_true rfl) hz, Option.bind_some, Option.bind_some]
    refine Ok.ret ⟨h4.2.1, rfl, ⟨by rw [hset_at]; rfl, hz, Or.inr ⟨k4.1, by omega, _, by rw [hset_ne (Ne.symm hl4)]; exact hset_at, fun j hj => ?_⟩⟩, Or.inr (by rw [n4]), ⟨fun x hx hs => ?_, ?_, ?_, ?_⟩, ?_⟩
    · rw [show j = 0 by omega]; simp [va_up]
    · have q1 : x ≠ l := fun q => hs (Or.inl q)
      have q2 : x ≠ h4.2.1 := by rw [n4]; omega
      rw [hset_ne q1, hset_ne q2]; exact o6 x q1 q2
    · show h.2.1 ≤ h6.2.1; omega
    · show h6.2.1 ≤ _; omega
    · show h6.2.2 ≤ _; omega
    · exact (k6.set k4.1 (by rw [n4]; omega)).set hz (by show l < h6.2.1; omega)
  · have hst : h4.1 e = some (rArr 10 Z f) := by rw [o4 e hne]; exact h2
    rw [alen_O hst, Option.bind_some, if_neg (fun q => by have := (iEq (by omega) (by omega)).mp q; omega)]
    unfold t_J2_add_2_1_l11
    rw [if_pos (isC_of (by rw [o4 a hal]; exact ha)), stR_of hst (by omega) (by omega) hze, Option.bind_some]
    have a7 : (hset h4 e (rArr 10 Z (va_up f n (some a)))).1 l = some (.inr (8, [Value.int (mc + 1), Value.ref e, Value.int (Int32.ofNat n)])) := by rw [hset_ne (Ne.symm hne)]; exact a4
    have hel := k.2.1 e _ h2
    rw [pF_of a7 (Nat.le_of_ble_eq_true rfl) hz, Option.bind_some, Option.bind_some]
    refine Ok.ret ⟨e, rfl, ⟨by rw [hset_at, ← iAdd1]; rfl, hz, Or.inr ⟨hze, by omega, _, by rw [hset_ne hne]; exact hset_at, fun j hj => ?_⟩⟩, Or.inl ⟨rfl, hze⟩, ⟨fun x hx hs => ?_, ?_, ?_, ?_⟩, ?_⟩
    · by_cases q : j = n
      · subst q; simp [va_up]
      · simp only [va_up, q, if_false]; exact h3 j (by omega)
    · have q1 : x ≠ l := fun q => hs (Or.inl q)
      have q2 : x ≠ e := fun q => hs (Or.inr ⟨q, hze⟩)
      rw [hset_ne q1, hset_ne q2]; exact o4 x q1
    · show h.2.1 ≤ h4.2.1; rw [n4]; exact Nat.le_refl _
    · show h4.2.1 ≤ _; rw [n4]; omega
    · show h4.2.2 ≤ _; rw [n4]; omega
    · exact (k4.set hze (by rw [n4]; exact hel)).set hz (by show l < h4.2.1; rw [n4]; exact hll)
theorem lst_add3 {Z : aZ} {h : aH} {l a : Nat} {mc : Int32} {e n : Nat} {as : Nat → Nat} {fs : List Value} (k : hOk Z h) (r : Rm Z h 1) (l9 : lstAt Z h l mc e n as) (hn : n < 10) (ha : h.1 a = some (.inr (3, fs))) :
    Ok (t_J2_add_3 Z h l a) (fun r => ∃ e', r.1 = 1 ∧ lstAt Z r.2 l (mc + 1) e' (n + 1) (va_up as n a) ∧ ((e' = e ∧ z0 Z ≤ e) ∨ e' = h.2.1) ∧ Fr (fun x => x = l ∨ (x = e ∧ z0 Z ≤ e)) h r.2 1 ∧ hOk Z r.2) := by
  have hne := l9.ne k
  have hal : a ≠ l := ent_ne ha l9.1 (fun q => by cases q)
  obtain ⟨h1, hz, hcase⟩ := id l9
  have hll := k.2.1 l _ h1
  unfold t_J2_add_3
  rw [gI_of (k := 0) h1 rfl, Option.bind_some, pF_of h1 (Nat.le_of_ble_eq_true rfl) hz, Option.bind_some]
  generalize hh4 : hset h l (.inr (8, [Value.int mc, Value.ref e, Value.int (Int32.ofNat n)].set 0 (Value.int (mc + 1)))) = h4
  have a4 : h4.1 l = some (.inr (8, [Value.int (mc + 1), Value.ref e, Value.int (Int32.ofNat n)])) := by rw [← hh4]; exact hset_at
  have o4 : ∀ x, x ≠ l → h4.1 x = h.1 x := fun x hx => by rw [← hh4]; exact hset_ne hx
  have n4 : h4.2 = h.2 := by rw [← hh4]; rfl
  have k4 : hOk Z h4 := by rw [← hh4]; exact k.set hz hll
  rw [gA_of (k := 1) a4 rfl, Option.bind_some, gI_of (k := 2) a4 rfl, Option.bind_some, if_pos (isC_of a4)]
  unfold t_J2_add_2_3
  rcases hcase with ⟨he, h0⟩ | ⟨hze, -, f, h2, h3⟩
  · subst h0
    have hst : h4.1 e = some (rArr 0 Z fun _ => none) := by rw [he]; exact k4.2.2.2
    rw [alen_O hst, Option.bind_some, if_pos rfl, if_pos (isC_of a4)]
    unfold t_J2_grow t_J2_grow_2
    rw [gI_of (k := 2) a4 rfl, Option.bind_some, if_pos (isC_of a4), gA_of (k := 1) a4 rfl, Option.bind_some, alen_O hst, Option.bind_some, if_neg (by decide), Option.bind_some, if_pos he]
    have e10 : jmax 10 (Int32.ofNat 0 + 1) = Int32.ofNat 10 := by decide
    have r4 : Rm Z h4 1 := by unfold Rm; rw [n4]; exact r
    rw [e10, nwA_of r4 (by omega), Option.bind_some]
    have hl4 : l ≠ h4.2.1 := by have := k4.2.1 l _ a4; omega
    have a5 : (hnew h4 (rArr 10 Z fun _ => none) 10).1 l = some (.inr (8, [Value.int (mc + 1), Value.ref e, Value.int (Int32.ofNat 0)])) := by rw [hnew_ne hl4]; exact a4
    rw [pF_of a5 (Nat.le_of_ble_eq_true rfl) hz, Option.bind_some, Option.bind_some, Option.bind_some]
    dsimp only
    generalize hh6 : hset (hnew h4 (rArr 10 Z fun _ => none) 10) l (.inr (8, [Value.int (mc + 1), Value.ref e, Value.int (Int32.ofNat 0)].set 1 (Value.ref h4.2.1))) = h6
    have a6 : h6.1 l = some (.inr (8, [Value.int (mc + 1), Value.ref h4.2.1, Value.int (Int32.ofNat 0)])) := by rw [← hh6]; exact hset_at
    have b6 : h6.1 h4.2.1 = some (rArr 10 Z fun _ => none) := by rw [← hh6, hset_ne (Ne.symm hl4)]; exact hnew_at
    have o6 : ∀ x, x ≠ l → x ≠ h4.2.1 → h6.1 x = h.1 x := fun x hx hy => by rw [← hh6, hset_ne hx, hnew_ne hy]; exact o4 x hx
    have n6 : h6.2.1 = h.2.1 + 1 ∧ h6.2.2 = h.2.2 + 10 := by rw [← hh6, ← hh4]; exact ⟨rfl, rfl⟩
    have k6 : hOk Z h6 := by rw [← hh6]; exact k4.new.set hz (by rw [hnew_n, n4]; omega)
    have haa := k.2.1 a _ ha
    unfold t_J2_add_2_3_l11
    rw [if_pos (isC_of (by rw [o6 a hal (by rw [n4]; omega)]; exact ha)), stR_of b6 (by omega) (by omega) k4.1, Option.bind_some]
    have a7 : (hset h6 h4.2.1 (rArr 10 Z (va_up (fun _ => none) 0 (some a)))).1 l = some (.inr (8, [Value.int (mc + 1), Value.ref h4.2.1, Value.int (Int32.ofNat 0)])) := by rw [hset_ne hl4]; exact a6
    rw [pF_of a7 (Nat.le_of_ble_eq_true rfl) hz, Option.bind_some, Option.bind_some]
    refine Ok.ret ⟨h4.2.1, rfl, ⟨by rw [hset_at]; rfl, hz, Or.inr ⟨k4.1, by omega, _, by rw [hset_ne (Ne.symm hl4)]; exact hset_at, fun j hj => ?_⟩⟩, Or.inr (by rw [n4]), ⟨fun x hx hs => ?_, ?_, ?_, ?_⟩, ?_⟩
    · rw [show j = 0 by omega]; simp [va_up]
    · have q1 : x ≠ l := fun q => hs (Or.inl q)
      have q2 : x ≠ h4.2.1 := by rw [n4]; omega
      rw [hset_ne q1, hset_ne q2]; exact o6 x q1 q2
    · show h.2.1 ≤ h6.2.1; omega
    · show h6.2.1 ≤ _; omega
    · show h6.2.2 ≤ _; omega
    · exact (k6.set k4.1 (by rw [n4]; omega)).set hz (by show l < h6.2.1; omega)
  · have hst : h4.1 e = some (rArr 10 Z f) := by rw [o4 e hne]; exact h2
    rw [alen_O hst, Option.bind_some, if_neg (fun q => by have := (iEq (by omega) (by omega)).mp q; omega)]
    unfold t_J2_add_2_3_l11
    rw [if_pos (isC_of (by rw [o4 a hal]; exact ha)), stR_of hst (by omega) (by omega) hze, Option.bind_some]
    have a7 : (hset h4 e (rArr 10 Z (va_up f n (some a)))).1 l = some (.inr (8, [Value.int (mc + 1), Value.ref e, Value.int (Int32.ofNat n)])) := by rw [hset_ne (Ne.symm hne)]; exact a4
    have hel := k.2.1 e _ h2
    rw [pF_of a7 (Nat.le_of_ble_eq_true rfl) hz, Option.bind_some, Option.bind_some]
    refine Ok.ret ⟨e, rfl, ⟨by rw [hset_at, ← iAdd1]; rfl, hz, Or.inr ⟨hze, by omega, _, by rw [hset_ne hne]; exact hset_at, fun j hj => ?_⟩⟩, Or.inl ⟨rfl, hze⟩, ⟨fun x hx hs => ?_, ?_, ?_, ?_⟩, ?_⟩
    · by_cases q : j = n
      · subst q; simp [va_up]
      · simp only [va_up, q, if_false]; exact h3 j (by omega)
    · have q1 : x ≠ l := fun q => hs (Or.inl q)
      have q2 : x ≠ e := fun q => hs (Or.inr ⟨q, hze⟩)
      rw [hset_ne q1, hset_ne q2]; exact o4 x q1
    · show h.2.1 ≤ h4.2.1; rw [n4]; exact Nat.le_refl _
    · show h4.2.1 ≤ _; rw [n4]; omega
    · show h4.2.2 ≤ _; rw [n4]; omega
    · exact (k4.set hze (by rw [n4]; exact hel)).set hz (by show l < h4.2.1; rw [n4]; exact hll)
theorem lst_add4 {Z : aZ} {h : aH} {l a : Nat} {mc : Int32} {e n : Nat} {as : Nat → Nat} {fs : List Value} (k : hOk Z h) (r : Rm Z h 1) (l9 : lstAt Z h l mc e n as) (hn : n < 10) (ha : h.1 a = some (.inr (4, fs))) :
    Ok (t_J2_add_4 Z h l a) (fun r => ∃ e', r.1 = 1 ∧ lstAt Z r.2 l (mc + 1) e' (n + 1) (va_up as n a) ∧ ((e' = e ∧ z0 Z ≤ e) ∨ e' = h.2.1) ∧ Fr (fun x => x = l ∨ (x = e ∧ z0 Z ≤ e)) h r.2 1 ∧ hOk Z r.2) := by
  have hne := l9.ne k
  have hal : a ≠ l := ent_ne ha l9.1 (fun q => by cases q)
  obtain ⟨h1, hz, hcase⟩ := id l9
  have hll := k.2.1 l _ h1
  unfold t_J2_add_4
  rw [gI_of (k := 0) h1 rfl, Option.bind_some, pF_of h1 (Nat.le_of_ble_eq_true rfl) hz, Option.bind_some]
  generalize hh4 : hset h l (.inr (8, [Value.int mc, Value.ref e, Value.int (Int32.ofNat n)].set 0 (Value.int (mc + 1)))) = h4
  have a4 : h4.1 l = some (.inr (8, [Value.int (mc + 1), Value.ref e, Value.int (Int32.ofNat n)])) := by rw [← hh4]; exact hset_at
  have o4 : ∀ x, x ≠ l → h4.1 x = h.1 x := fun x hx => by rw [← hh4]; exact hset_ne hx
  have n4 : h4.2 = h.2 := by rw [← hh4]; rfl
  have k4 : hOk Z h4 := by rw [← hh4]; exact k.set hz hll
  rw [gA_of (k := 1) a4 rfl, Option.bind_some, gI_of (k := 2) a4 rfl, Option.bind_some, if_pos (isC_of a4)]
  unfold t_J2_add_2_4
  rcases hcase with ⟨he, h0⟩ | ⟨hze, -, f, h2, h3⟩
  · subst h0
    have hst : h4.1 e = some (rArr 0 Z fun _ => none) := by rw [he]; exact k4.2.2.2
    rw [alen_O hst, Option.bind_some, if_pos rfl, if_pos (isC_of a4)]
    unfold t_J2_grow t_J2_grow_2
    rw [gI_of (k := 2) a4 rfl, Option.bind_some, if_pos (isC_of a4), gA_of (k := 1) a4 rfl, Option.bind_some, alen_O hst, Option.bind_some, if_neg (by decide), Option.bind_some, if_pos he]
    have e10 : jmax 10 (Int32.ofNat 0 + 1) = Int32.ofNat 10 := by decide
    have r4 : Rm Z h4 1 := by unfold Rm; rw [n4]; exact r
    rw [e10, nwA_of r4 (by omega), Option.bind_some]
    have hl4 : l ≠ h4.2.1 := by have := k4.2.1 l _ a4; omega
    have a5 : (hnew h4 (rArr 10 Z fun _ => none) 10).1 l = some (.inr (8, [Value.int (mc + 1), Value.ref e, Value.int (Int32.ofNat 0)])) := by rw [hnew_ne hl4]; exact a4
    rw [pF_of a5 (Nat.le_of_ble_eq_true rfl) hz, Option.bind_some, Option.bind_some, Option.bind_some]
    dsimp only
    generalize hh6 : hset (hnew h4 (rArr 10 Z fun _ => none) 10) l (.inr (8, [Value.int (mc + 1), Value.ref e, Value.int (Int32.ofNat 0)].set 1 (Value.ref h4.2.1))) = h6
    have a6 : h6.1 l = some (.inr (8, [Value.int (mc + 1), Value.ref h4.2.1, Value.int (Int32.ofNat 0)])) := by rw [← hh6]; exact hset_at
    have b6 : h6.1 h4.2.1 = some (rArr 10 Z fun _ => none) := by rw [← hh6, hset_ne (Ne.symm hl4)]; exact hnew_at
    have o6 : ∀ x, x ≠ l → x ≠ h4.2.1 → h6.1 x = h.1 x := fun x hx hy => by rw [← hh6, hset_ne hx, hnew_ne hy]; exact o4 x hx
    have n6 : h6.2.1 = h.2.1 + 1 ∧ h6.2.2 = h.2.2 + 10 := by rw [← hh6, ← hh4]; exact ⟨rfl, rfl⟩
    have k6 : hOk Z h6 := by rw [← hh6]; exact k4.new.set hz (by rw [hnew_n, n4]; omega)
    have haa := k.2.1 a _ ha
    unfold t_J2_add_2_4_l11
    rw [if_pos (isC_of (by rw [o6 a hal (by rw [n4]; omega)]; exact ha)), stR_of b6 (by omega) (by omega) k4.1, Option.bind_some]
    have a7 : (hset h6 h4.2.1 (rArr 10 Z (va_up (fun _ => none) 0 (some a)))).1 l = some (.inr (8, [Value.int (mc + 1), Value.ref h4.2.1, Value.int (Int32.ofNat 0)])) := by rw [hset_ne hl4]; exact a6
    rw [pF_of a7 (Nat.le_of_ble_eq_true rfl) hz, Option.bind_some, Option.bind_some]
    refine Ok.ret ⟨h4.2.1, rfl, ⟨by rw [hset_at]; rfl, hz, Or.inr ⟨k4.1, by omega, _, by rw [hset_ne (Ne.symm hl4)]; exact hset_at, fun j hj => ?_⟩⟩, Or.inr (by rw [n4]), ⟨fun x hx hs => ?_, ?_, ?_, ?_⟩, ?_⟩
    · rw [show j = 0 by omega]; simp [va_up]
    · have q1 : x ≠ l := fun q => hs (Or.inl q)
      have q2 : x ≠ h4.2.1 := by rw [n4]; omega
      rw [hset_ne q1, hset_ne q2]; exact o6 x q1 q2
    · show h.2.1 ≤ h6.2.1; omega
    · show h6.2.1 ≤ _; omega
    · show h6.2.2 ≤ _; omega
    · exact (k6.set k4.1 (by rw [n4]; omega)).set hz (by show l < h6.2.1; omega)
  · have hst : h4.1 e = some (rArr 10 Z f) := by rw [o4 e hne]; exact h2
    rw [alen_O hst, Option.bind_some, if_neg (fun q => by have := (iEq (by omega) (by omega)).mp q; omega)]
    unfold t_J2_add_2_4_l11
    rw [if_pos (isC_of (by rw [o4 a hal]; exact ha)), stR_of hst (by omega) (by omega) hze, Option.bind_some]
    have a7 : (hset h4 e (rArr 10 Z (va_up f n (some a)))).1 l = some (.inr (8, [Value.int (mc + 1), Value.ref e, Value.int (Int32.ofNat n)])) := by rw [hset_ne (Ne.symm hne)]; exact a4
    have hel := k.2.1 e _ h2
    rw [pF_of a7 (Nat.le_of_ble_eq_true rfl) hz, Option.bind_some, Option.bind_some]
    refine Ok.ret ⟨e, rfl, ⟨by rw [hset_at, ← iAdd1]; rfl, hz, Or.inr ⟨hze, by omega, _, by rw [hset_ne hne]; exact hset_at, fun j hj => ?_⟩⟩, Or.inl ⟨rfl, hze⟩, ⟨fun x hx hs => ?_, ?_, ?_, ?_⟩, ?_⟩
    · by_cases q : j = n
      · subst q; simp [va_up]
      · simp only [va_up, q, if_false]; exact h3 j (by omega)
    · have q1 : x ≠ l := fun q => hs (Or.inl q)
      have q2 : x ≠ e := fun q => hs (Or.inr ⟨q, hze⟩)
      rw [hset_ne q1, hset_ne q2]; exact o4 x q1
    · show h.2.1 ≤ h4.2.1; rw [n4]; exact Nat.le_refl _
    · show h4.2.1 ≤ _; rw [n4]; omega
    · show h4.2.2 ≤ _; rw [n4]; omega
    · exact (k4.set hze (by rw [n4]; exact hel)).set hz (by show l < h4.2.1; rw [n4]; exact hll)
/-! iterators -/
abbrev itE (i lr mc : Int32) (l : Nat) : va_E := .inr (9, [.int i, .int lr, .int mc, .ref l])
theorem it_new {Z : aZ} {h : aH} {l : Nat} {mc : Int32} {e n : Nat} {as : Nat → Nat} (k : hOk Z h) (r : Rm Z h 1) (l9 : lstAt Z h l mc e n as) : t_J2_iterator Z h l = some (h.2.1, hnew h (itE 0 (-1) mc l) 4) := by
  have hl := k.2.1 l _ l9.1
  unfold t_J2_iterator t_J7_init
  rw [nw_of r (by omega), Option.bind_some, pF_new (Nat.le_of_ble_eq_true rfl) k.1, Option.bind_some, pF_new (Nat.le_of_ble_eq_true rfl) k.1, Option.bind_some, gA_of (k := 3) hnew_at rfl, Option.bind_some,
    gI_of (k := 0) (fs := [Value.int mc, Value.ref e, Value.int (Int32.ofNat n)]) (by rw [hnew_ne (by omega)]; exact l9.1) rfl, Option.bind_some, pF_new (Nat.le_of_ble_eq_true rfl) k.1, Option.bind_some, Option.bind_some]
  rfl
theorem it_has {Z : aZ} {H : aH} {it l : Nat} {lr mc mc' : Int32} {e i n : Nat} (h1 : H.1 it = some (itE (Int32.ofNat i) lr mc l)) (h2 : H.1 l = some (.inr (8, [.int mc', .ref e, .int (Int32.ofNat n)]))) (hi : i < 100) (hn : n < 100) : t_J7_hasNext Z H it = some (if i = n then 0 else 1, H) := by
  unfold t_J7_hasNext
  rw [gI_of (k := 0) h1 rfl, Option.bind_some, gA_of (k := 3) h1 rfl, Option.bind_some, gI_of (k := 2) h2 rfl, Option.bind_some]
  by_cases q : i = n
  · rw [if_pos q, if_pos (by rw [q])]
  · rw [if_neg q, if_neg (fun z => q ((iEq (by omega) (by omega)).mp z))]
theorem it_next {Z : aZ} {H : aH} {it l : Nat} {lr mc : Int32} {e i n : Nat} {as : Nat → Nat} (l9 : lstAt Z H l mc e n as) (h1 : H.1 it = some (itE (Int32.ofNat i) lr mc l)) (hi : i < n) (hz : z0 Z ≤ it) : t_J7_next Z H it = some (as i, hset H it (itE (Int32.ofNat (i + 1)) (Int32.ofNat i) mc l)) := by
  have hn := l9.lt
  obtain ⟨g1, g2, ⟨-, g3⟩ | ⟨g3, -, f, g4, g5⟩⟩ := l9
  · omega
  have hit : e ≠ it := ent_ne g4 h1 (fun q => by cases q)
  unfold t_J7_next t_J7_checkForComodification
  rw [if_pos (isC_of h1), gA_of (k := 3) h1 rfl, Option.bind_some, gI_of (k := 0) g1 rfl, Option.bind_some, gI_of (k := 2) h1 rfl, Option.bind_some, if_pos rfl, Option.bind_some]
  dsimp only
  rw [gI_of (k := 0) h1 rfl, Option.bind_some, gA_of (k := 3) h1 rfl, Option.bind_some, gI_of (k := 2) g1 rfl, Option.bind_some, if_pos ((iLt (by omega) (by omega)).mpr hi), Option.bind_some, gA_of (k := 1) g1 rfl, Option.bind_some, alen_O g4, Option.bind_some,
    if_pos ((iLt (by omega) (by omega)).mpr (by omega)), pF_of h1 (Nat.le_of_ble_eq_true rfl) hz, Option.bind_some, pF_of hset_at (Nat.le_of_ble_eq_true rfl) hz, Option.bind_some, hset_hset,
    ldX_of (f := f) (n := 10) (x := as i) (by rw [hset_ne hit]; exact g4) (by omega) (by omega) (g5 i hi), Option.bind_some, iAdd1]
  rfl
def foldN {α : Type} (step : Nat → α → α) : Nat → α → α
  | 0, a => a
  | n + 1, a => step n (foldN step n a)
theorem foldN_congr {α : Type} {f g : Nat → α → α} {n : Nat} (h : ∀ i, i < n → ∀ a, f i a = g i a) (a : α) : foldN f n a = foldN g n a := by
  induction n with
  | zero => rfl
  | succ n ih => show f n (foldN f n a) = g n (foldN g n a); rw [ih (fun i hi => h i (by omega)), h n (by omega)]
/-- a loop over a list that reads alone: H i lr is the heap with the iterator at i -/
theorem it_loop {α σ ε : Type} {F : σ → Option (σ ⊕ ε)} {Z : aZ} {h : aH} {l : Nat} {mc : Int32} {e n : Nat} {as : Nat → Nat} (k : hOk Z h) (l9 : lstAt Z h l mc e n as) (mk : α → aH → σ) (out : α → aH → ε) (step : Nat → α → α)
    (hend : ∀ acc lr, F (mk acc (hnew h (itE (Int32.ofNat n) lr mc l) 4)) = some (.inr (out acc (hnew h (itE (Int32.ofNat n) lr mc l) 4))))
    (hstep : ∀ i acc lr, i < n → F (mk acc (hnew h (itE (Int32.ofNat i) lr mc l) 4)) = some (.inl (mk (step i acc) (hnew h (itE (Int32.ofNat (i + 1)) (Int32.ofNat i) mc l) 4)))) {fuel : Nat} (hf : 11 < fuel) (acc : α) :
    ∃ lr, wlo F fuel (mk acc (hnew h (itE 0 (-1) mc l) 4)) = some (out (foldN step n acc) (hnew h (itE (Int32.ofNat n) lr mc l) 4)) := by
  have hn := l9.lt
  obtain ⟨r, e1, lr, rfl⟩ : Ok (wlo F fuel (mk acc (hnew h (itE 0 (-1) mc l) 4))) (fun r => ∃ lr, r = out (foldN step n acc) (hnew h (itE (Int32.ofNat n) lr mc l) 4)) := by
    refine wlo_for n (fun i st => ∃ lr, st = mk (foldN step i acc) (hnew h (itE (Int32.ofNat i) lr mc l) 4)) _ ?_ ?_ (i := 0) ⟨-1, rfl⟩ (by omega) (by omega)
    · rintro i st hi ⟨lr, rfl⟩
      exact Or.inl ⟨_, hstep i _ lr hi, _, rfl⟩
    · rintro st ⟨lr, rfl⟩
      exact ⟨_, hend _ lr, lr, rfl⟩
  exact ⟨lr, e1⟩
/-- the list, seen with the iterator there -/
theorem lstAt.new {Z : aZ} {h : aH} {l : Nat} {mc : Int32} {e n : Nat} {as : Nat → Nat} (k : hOk Z h) (l9 : lstAt Z h l mc e n as) {x : va_E} {c : Nat} : lstAt Z (hnew h x c) l mc e n as := by
  have h1 := k.2.1 l _ l9.1
  refine l9.keep (hnew_ne (by omega)) (fun hz => ?_)
  obtain ⟨-, -, ⟨g3, -⟩ | ⟨g3, -, f, g4, g5⟩⟩ := l9
  · have := k.2.2.1; omega
  · have := k.2.1 e _ g4
    exact hnew_ne (by omega)
/-! what is refused -/
abbrev rfs (a b c : Int32) : va_E := .inr (5, [.null, .null, .null, .null, .null, .int 0, .int a, .int b, .int c])
theorem rf_init {Z : aZ} {h : aH} {a b c : Int32} (k : hOk Z h) : t_X7_init_2 Z (hnew h (.inr (5, [.null, .null, .null, .null, .null, .int 0, .int 0, .int 0, .int 0])) 9) h.2.1 a b c = some ((), hnew h (rfs a b c) 9) := by
  unfold t_X7_init_2 t_J9_init_2_5 t_J8_init_2_5 t_J8_init_2_5_l41
  rw [pF_new (Nat.le_of_ble_eq_true rfl) k.1, Option.bind_some, pF_new (Nat.le_of_ble_eq_true rfl) k.1, Option.bind_some, pF_new (Nat.le_of_ble_eq_true rfl) k.1, Option.bind_some, if_pos rfl, pF_new (Nat.le_of_ble_eq_true rfl) k.1, Option.bind_some, pF_new (Nat.le_of_ble_eq_true rfl) k.1, Option.bind_some, pF_new (Nat.le_of_ble_eq_true rfl) k.1, Option.bind_some, if_pos rfl, pF_new (Nat.le_of_ble_eq_true rfl) k.1, Option.bind_some, Option.bind_some, Option.bind_some,
    pF_new (Nat.le_of_ble_eq_true rfl) k.1, Option.bind_some, pF_new (Nat.le_of_ble_eq_true rfl) k.1, Option.bind_some, pF_new (Nat.le_of_ble_eq_true rfl) k.1, Option.bind_some]
  rfl
theorem refuse_no {Z : aZ} {h : aH} {a b : Int32} : t_X1_refuse Z h 0 a b = some (.inl (), h) := rfl
theorem refuse_yes {Z : aZ} {h : aH} {a b : Int32} (k : hOk Z h) (r : Rm Z h 1) : t_X1_refuse Z h 1 a b = some (.inr ("MazeBonds$RefusedException", h.2.1), hnew h (rfs a b 0) 9) := by
  unfold t_X1_refuse t_X7_init
  rw [if_neg (by decide), nw_of r (by omega), Option.bind_some, rf_init k, Option.bind_some, Option.bind_some, if_pos (isC_of hnew_at)]
