/-! lists: taking out, clearing -/
set_option maxRecDepth 100000
section lr
variable {Z : aZ} {h : aH} {l : Nat} {mc : Int32} {e n : Nat} {as : Nat → Nat}
theorem lst_remL (k : hOk Z h) (l9 : lstAt Z h l mc e (n + 1) as) : Ok (t_J2_remove Z h l (Int32.ofNat n)) (fun r => r.1 = as n ∧ lstAt Z r.2 l (mc + 1) e n as ∧ z0 Z ≤ e ∧ Fr (fun x => x = l ∨ x = e) h r.2 0 ∧ hOk Z r.2) := by
  have hn := l9.lt
  have hne := l9.ne k
  obtain ⟨h1, hz, ⟨-, h0⟩ | ⟨hze, -, f, h2, h3⟩⟩ := id l9
  · omega
  have hll := k.2.1 l _ h1
  have hel := k.2.1 e _ h2
  unfold t_J2_remove t_J15_checkIndex t_J16_checkIndex_n
  rw [gI_of (k := 2) h1 rfl, Option.bind_some, if_neg (iNeg0 (by omega)), if_pos ((iLt (by omega) (by omega)).mpr (by omega)), Option.bind_some, Option.bind_some, gA_of (k := 1) h1 rfl, Option.bind_some, ldX_of h2 (by omega) (by omega) (h3 n (by omega)), Option.bind_some, if_pos l9.isC]
  unfold t_J2_fastRemove t_J2_fastRemove_l34
  rw [gI_of (k := 0) h1 rfl, Option.bind_some, pF_of h1 (Nat.le_of_ble_eq_true rfl) hz, Option.bind_some, gI_of (k := 2) hset_at rfl, Option.bind_some, ← iAdd1]
  have e1 : Int32.ofNat n + 1 - 1 = Int32.ofNat n := by rw [iAdd1, show (1 : Int32) = Int32.ofNat 1 from rfl, iSub (by omega), Nat.add_sub_cancel]
  rw [e1, if_pos (Int32.le_refl _), pF_of hset_at (Nat.le_of_ble_eq_true rfl) hz, Option.bind_some, hset_hset, stR_of (by rw [hset_ne hne]; exact h2) (by omega) (by omega) hze, Option.bind_some, Option.bind_some]
  refine Ok.ret ⟨rfl, ⟨by rw [hset_ne (Ne.symm hne), hset_at]; rfl, hz, Or.inr ⟨hze, by omega, _, hset_at, fun j hj => ?_⟩⟩, hze, ⟨fun x hx hs => ?_, Nat.le_refl _, Nat.le_refl _, Nat.le_refl _⟩, ?_⟩
  · rw [vu_ne (by omega)]; exact h3 j (by omega)
  · rw [hset_ne (fun q => hs (Or.inr q)), hset_ne (fun q => hs (Or.inl q))]
  · exact (k.set hz hll).set hze hel
theorem lst_rem0 (k : hOk Z h) (l9 : lstAt Z h l mc e (n + 2) as) (hc : ∀ j, j < n + 2 → isC 1 h (as j) = true) : Ok (t_J2_remove Z h l 0) (fun r => r.1 = as 0 ∧ lstAt Z r.2 l (mc + 1) e (n + 1) (fun j => as (j + 1)) ∧ z0 Z ≤ e ∧ Fr (fun x => x = l ∨ x = e) h r.2 0 ∧ hOk Z r.2) := by
  have hn := l9.lt
  have hne := l9.ne k
  obtain ⟨h1, hz, ⟨-, h0⟩ | ⟨hze, -, f, h2, h3⟩⟩ := id l9
  · omega
  have hll := k.2.1 l _ h1
  have hel := k.2.1 e _ h2
  unfold t_J2_remove t_J15_checkIndex t_J16_checkIndex_n
  rw [gI_of (k := 2) h1 rfl, Option.bind_some, if_neg (by decide), if_pos (show (0 : Int32) < Int32.ofNat (n + 2) from (iLt (a := 0) (by omega) (by omega)).mpr (by omega)), Option.bind_some, Option.bind_some, gA_of (k := 1) h1 rfl, Option.bind_some, show ldX Z h e 0 = some (as 0) from ldX_of (i := 0) h2 (by omega) (by omega) (h3 0 (by omega)), Option.bind_some, if_pos l9.isC]
  unfold t_J2_fastRemove t_J2_fastRemove_l34
  rw [gI_of (k := 0) h1 rfl, Option.bind_some, pF_of h1 (Nat.le_of_ble_eq_true rfl) hz, Option.bind_some, gI_of (k := 2) hset_at rfl, Option.bind_some]
  have e1 : Int32.ofNat (n + 2) - 1 = Int32.ofNat (n + 1) := by rw [show (1 : Int32) = Int32.ofNat 1 from rfl, iSub (by omega)]; rfl
  have e2 : Int32.ofNat (n + 1) - 0 = Int32.ofNat (n + 1) := by rw [show (0 : Int32) = Int32.ofNat 0 from rfl, iSub (by omega)]; rfl
  rw [e1, if_neg (fun q => by have := (iLe (b := 0) (by omega) (by omega)).mp q; omega), e2]
  generalize hh4 : hset h l (.inr (8, [Value.int mc, Value.ref e, Value.int (Int32.ofNat (n + 2))].set 0 (Value.int (mc + 1)))) = h4
  have a4 : h4.1 l = some (.inr (8, [Value.int (mc + 1), Value.ref e, Value.int (Int32.ofNat (n + 2))])) := by rw [← hh4]; exact hset_at
  have o4 : ∀ x, x ≠ l → h4.1 x = h.1 x := fun x hx => by rw [← hh4]; exact hset_ne hx
  have n4 : h4.2 = h.2 := by rw [← hh4]; rfl
  have k4 : hOk Z h4 := by rw [← hh4]; exact k.set hz hll
  have b4 : h4.1 e = some (rArr 10 Z f) := by rw [o4 e hne]; exact h2
  have hcp : cpR 1 Z h4 e (0 + 1) 0 (Int32.ofNat (n + 1)) = some (hset h4 e (rArr 10 Z (va_cpy f f 1 0 (n + 1)))) := by
    unfold cpR
    rw [b4]
    dsimp only
    have t1 : (0 + 1 : Int32).toNatClampNeg = 1 := by decide
    have t0 : (0 : Int32).toNatClampNeg = 0 := by decide
    rw [t1, t0, iNat (by omega), if_pos]
    refine ⟨rfl, by decide, by decide, Int32.zero_le_ofNat_of_lt (by omega), by omega, by omega, hze, ?_⟩
    rw [List.all_eq_true]
    intro i hi
    rw [List.mem_range] at hi
    rw [h3 (1 + i) (by omega)]
    have hi' := hc (1 + i) (by omega)
    have hne2 : as (1 + i) ≠ l := by
      intro q
      rw [q] at hi'
      unfold isC at hi'
      rw [h1] at hi'
      simp at hi'
    show isC 1 h4 (as (1 + i)) = true
    unfold isC
    rw [o4 _ hne2]
    exact hi'
  rw [hcp, Option.bind_some, pF_of (by rw [hset_ne (Ne.symm hne)]; exact a4) (Nat.le_of_ble_eq_true rfl) hz, Option.bind_some, stR_of (by rw [hset_ne hne]; exact hset_at) (by omega) (by omega) hze, Option.bind_some, Option.bind_some]
  refine Ok.ret ⟨rfl, ⟨by rw [hset_ne (Ne.symm hne), hset_at]; rfl, hz, Or.inr ⟨hze, by omega, _, hset_at, fun j hj => ?_⟩⟩, hze, ⟨fun x hx hs => ?_, ?_, ?_, ?_⟩, ?_⟩
  · rw [vu_ne (by omega)]
    unfold va_cpy
    rw [if_pos (by omega), show 1 + (j - 0) = j + 1 by omega]
    exact h3 (j + 1) (by omega)
  · rw [hset_ne (fun q => hs (Or.inr q)), hset_ne (fun q => hs (Or.inl q)), hset_ne (fun q => hs (Or.inr q))]
    exact o4 x (fun q => hs (Or.inl q))
  · show h.2.1 ≤ h4.2.1; rw [n4]; exact Nat.le_refl _
  · show h4.2.1 ≤ _; rw [n4]; exact Nat.le_refl _
  · show h4.2.2 ≤ _; rw [n4]; exact Nat.le_refl _
  · exact ((k4.set hze (by rw [n4]; exact hel)).set hz (by show l < h4.2.1; rw [n4]; exact hll)).set hze (by show e < h4.2.1; rw [n4]; exact hel)
theorem lst_clear (k : hOk Z h) (l9 : lstAt Z h l mc e n as) : Ok (t_J2_clear Z h l) (fun r => lstAt Z r.2 l (mc + 1) e 0 as ∧ Fr (fun x => x = l ∨ (x = e ∧ z0 Z ≤ e)) h r.2 0 ∧ hOk Z r.2) := by
  have hn := l9.lt
  have hne := l9.ne k
  obtain ⟨h1, hz, hcase⟩ := id l9
  have hll := k.2.1 l _ h1
  unfold t_J2_clear
  rw [gI_of (k := 0) h1 rfl, Option.bind_some, pF_of h1 (Nat.le_of_ble_eq_true rfl) hz, Option.bind_some, gA_of (k := 1) hset_at rfl, Option.bind_some, gI_of (k := 2) hset_at rfl, Option.bind_some, pF_of hset_at (Nat.le_of_ble_eq_true rfl) hz, Option.bind_some, hset_hset]
  generalize hh4 : hset h l (.inr (8, (([Value.int mc, Value.ref e, Value.int (Int32.ofNat n)].set 0 (Value.int (mc + 1))).set 2 (.int 0)))) = h4
  have a4 : h4.1 l = some (.inr (8, [Value.int (mc + 1), Value.ref e, Value.int (Int32.ofNat 0)])) := by rw [← hh4]; exact hset_at
  have o4 : ∀ x, x ≠ l → h4.1 x = h.1 x := fun x hx => by rw [← hh4]; exact hset_ne hx
  have n4 : h4.2 = h.2 := by rw [← hh4]; rfl
  have k4 : hOk Z h4 := by rw [← hh4]; exact k.set hz hll
  refine wlo_for n (fun i st => ∃ X, st = (e, Int32.ofNat n, Int32.ofNat i, X) ∧ hOk Z X ∧ X.2 = h.2 ∧ X.1 l = h4.1 l ∧ (∀ x, x ≠ l → ¬ (x = e ∧ z0 Z ≤ e) → X.1 x = h.1 x) ∧ (z0 Z ≤ e → ∃ f, X.1 e = some (rArr 10 Z f))) _ ?_ ?_ (i := 0) ⟨h4, rfl, k4, n4, rfl, fun x q1 _ => o4 x q1, fun q => ?_⟩ (by omega) (by omega)
  · rintro i st hi ⟨X, rfl, kX, nX, lX, oX, eX⟩
    refine Or.inl ?_
    rcases hcase with ⟨-, h0⟩ | ⟨hze, -, f, h2, h3⟩
    · omega
    obtain ⟨g, hg⟩ := eX hze
    unfold t_J2_clear_b27
    dsimp only
    rw [if_neg (fun q => by have := (iLe (by omega) (by omega)).mp q; omega), stR_of hg (by omega) (by omega) hze, Option.bind_some, iAdd1]
    exact ⟨_, rfl, _, rfl, kX.set hze (kX.2.1 e _ hg), nX, by rw [hset_ne (Ne.symm hne)]; exact lX, fun x q1 q2 => by rw [hset_ne (fun q => q2 ⟨q, hze⟩)]; exact oX x q1 q2, fun _ => ⟨_, hset_at⟩⟩
  · rintro st ⟨X, rfl, kX, nX, lX, oX, eX⟩
    unfold t_J2_clear_b27
    dsimp only
    rw [if_pos (Int32.le_refl _)]
    refine ⟨_, rfl, ⟨lX.trans a4, hz, ?_⟩, ⟨fun x hx hs => oX x (fun q => hs (Or.inl q)) (fun q => hs (Or.inr q)), by rw [nX]; exact Nat.le_refl _, by rw [nX]; exact Nat.le_refl _, by rw [nX]; exact Nat.le_refl _⟩, kX⟩
    rcases hcase with ⟨he, -⟩ | ⟨hze, -⟩
    · exact Or.inl ⟨he, rfl⟩
    · obtain ⟨g, hg⟩ := eX hze
      exact Or.inr ⟨hze, by omega, g, hg, fun j hj => by omega⟩
  · rcases hcase with ⟨he, -⟩ | ⟨hze, -, f, h2, h3⟩
    · have := k.2.2.1; omega
    · exact ⟨f, by rw [o4 e hne]; exact h2⟩
end lr
