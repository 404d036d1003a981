/-! the core copied: its people, its numbers -/
set_option maxRecDepth 100000
/-- what a copy leaves: a core of the same numbers, in cells that are new -/
def cpPost (Z : aZ) (h : aH) (m : Nat → Int32) (u : Nat) (r : Nat × aH) : Prop := r.1 = h.2.1 ∧ hOk Z r.2 ∧ Fr non h r.2 u ∧ coreIn Z r.2 h.2.1 r.2.2.1 h.2.1 m
section cp
variable {Z : aZ} {h H : aH} {lo hi o : Nat} {m : Nat → Int32} {L G V eG eV : Nat} {gs vs : Nat → Nat} {ng nv : Nat} {mG mV : Int32} {L' G' V' eG' eV' : Nat} {gs' vs' : Nat → Nat} {mc mc' : Int32}
theorem co_l102 (kh : hOk Z h) (c : coreR Z h lo hi o m L G V eG eV gs vs ng nv mG mV) (kH : hOk Z H) {u : Nat} (fH : Fr non h H u) (cN : coreR Z H h.2.1 H.2.1 h.2.1 (mAt m ng nv) L' G' V' eG' eV' gs' vs' ng nv mc mc') : Ok (t_X2_copy_l102 Z H o h.2.1) (cpPost Z h m u) := by
  obtain ⟨c1, -, c4, -, -, -, -, -, -, -, i1, -, -, -, -, -, i7, i8⟩ := id c
  have n1 := cN.1
  have hne : o ≠ h.2.1 := by omega
  have ho : ∀ e, (hset H h.2.1 e).1 o = some (cO m L G V) := fun e => by rw [hset_ne hne, fH.1 o (by omega) (fun q => q)]; exact c1
  have ho' : H.1 o = some (cO m L G V) := by rw [fH.1 o (by omega) (fun q => q)]; exact c1
  have hz := kh.1
  unfold t_X2_copy_l102
  rw [gI_of (k := 3) ho' rfl, Option.bind_some, pF_of n1 (Nat.le_of_ble_eq_true rfl) hz, Option.bind_some, gI_of (k := 4) (ho _) rfl, Option.bind_some, pF_of hset_at (Nat.le_of_ble_eq_true rfl) hz, Option.bind_some, hset_hset, gI_of (k := 5) (ho _) rfl, Option.bind_some, pF_of hset_at (Nat.le_of_ble_eq_true rfl) hz, Option.bind_some, hset_hset, gI_of (k := 6) (ho _) rfl, Option.bind_some, pF_of hset_at (Nat.le_of_ble_eq_true rfl) hz, Option.bind_some, hset_hset]
  have hnl := kH.2.1 _ _ n1
  refine Ok.ret ⟨rfl, kH.set hz hnl, (fH.tr (Fr.set (S := fun a => a = h.2.1) rfl) (fun a h1 h2 => by omega)).up (by omega), L', G', V', eG', eV', gs', vs', ng, nv, mc, mc', ?_⟩
  exact cN.fld kH (m' := m) (fun i hi => by
    rcases hi with hi | hi
    · have : i = 0 ∨ i = 1 := by omega
      rcases this with rfl | rfl
      · exact c4.1
      · exact c4.2.1
    · exact (mAt_hi hi).symm)
theorem co_l60 (kh : hOk Z h) (c : coreR Z h lo hi o m L G V eG eV gs vs ng nv mG mV) (hv : ∀ j, j < nv → m (46 + 8 * j + 6) = 0 ∨ m (46 + 8 * j + 6) = 1) (kH : hOk Z H) {u : Nat} (fH : Fr non h H u) (rH : Rm Z h (u + 11)) (cN : coreR Z H h.2.1 H.2.1 h.2.1 (mAt m ng 0) L' G' V' eG' eV' gs' vs' ng 0 mc mc') : Ok (t_X2_copy_l60 Z H o h.2.1) (cpPost Z h m (u + 11)) := by
  obtain ⟨c1, -, c4, c5, c6, -, c8, -, -, -, i1, -, -, i4, -, i6, i7, i8⟩ := id c
  have hz := kh.1
  have old : ∀ {X : aH} {u9 : Nat}, Fr non h X u9 → ∀ a, a < h.2.1 → X.1 a = h.1 a := fun f a ha => f.1 a ha (fun q => q)
  have lV : ∀ {X : aH} {u9 : Nat}, Fr non h X u9 → lstAt Z X V mV eV nv vs := fun f => c6.keep (old f V (by omega)) (fun q => old f eV (by have := i6 q; omega))
  have ho : H.1 o = some (cO m L G V) := by rw [old fH o (by omega)]; exact c1
  unfold t_X2_copy_l60
  rw [gA_of (k := 2) ho rfl, Option.bind_some, if_pos (lV fH).isC, it_new kH (rH.after fH |>.less (by omega)) (lV fH), Option.bind_some]
  dsimp only
  have hit0 : h.2.1 ≤ H.2.1 := fH.2.1
  generalize hit : H.2.1 = it at hit0 ⊢
  refine wlo_for nv (fun i st => ∃ X lr e9 w9 mc9, st = (o, h.2.1, it, X) ∧ hOk Z X ∧ Fr non h X (u + 1 + 2 * i) ∧ X.1 it = some (itE (Int32.ofNat i) lr mV V) ∧ coreR Z X h.2.1 X.2.1 h.2.1 (mAt m ng i) L' G' V' eG' e9 gs' w9 ng i mc mc9) _ ?_ ?_ (i := 0) ⟨_, -1, eV', vs', mc', rfl, kH.new, ?_, ?_, ?_⟩ (by omega) (by have := c4.2.2.2; omega)
  · rintro i st hi ⟨X, lr, e9, w9, mc9, rfl, kX, fX, hX, cX⟩
    refine Or.inl ?_
    have hnv := c4.2.2.2
    have lX := lV fX
    have hitl := kX.2.1 it _ hX
    unfold t_X2_copy_b68
    dsimp only
    rw [if_pos (isC_of hX), it_has hX lX.1 (by omega) (by omega), Option.bind_some, if_neg (show ¬ i = nv by omega)]
    dsimp only
    rw [if_neg (by decide), if_pos (isC_of hX), it_next lX hX hi (by omega), Option.bind_some]
    dsimp only
    have cX1 := cX.other (e' := itE (Int32.ofNat (i + 1)) (Int32.ofNat i) mV V) kX hX ⟨by decide, by decide, by decide, by decide⟩
    generalize hX1 : hset X it (itE (Int32.ofNat (i + 1)) (Int32.ofNat i) mV V) = X1 at cX1
    have k1 : hOk Z X1 := by rw [← hX1]; exact kX.set (by omega) hitl
    have n1 : X1.2 = X.2 := by rw [← hX1]; rfl
    have a1 : X1.1 it = some (itE (Int32.ofNat (i + 1)) (Int32.ofNat i) mV V) := by rw [← hX1]; exact hset_at
    have f1 : Fr non h X1 (u + 1 + 2 * i) := by
      rw [← hX1]; exact (fX.tr (Fr.set (S := fun a => a = it) rfl) (fun a h1 h2 => by omega)).up (by omega)
    have hvo : X1.1 (vs i) = some (.inr (4, pV m i)) := by rw [old f1 _ (by have := (c8 i hi).2.2; omega)]; exact (c8 i hi).1
    have r1 : Rm Z X1 2 := by
      have := rH.less (v := u + 1 + 2 * i + 2) (by omega)
      exact Rm.after this f1
    rw [if_pos (isC_of hvo), gA_of (k := 2) cX1.1 rfl, Option.bind_some, if_pos (isC_of hvo), x6_copy k1 (r1.less (by omega)) hvo (hv i hi), Option.bind_some]
    dsimp only
    have l1 : lstAt Z X1 V' mc9 e9 i w9 := cX1.2.2.2.2.1
    have l2 := l1.new k1 (x := .inr (4, pV m i)) (c := 7)
    have f2 : Fr non h (hnew X1 (.inr (4, pV m i)) 7) (u + 1 + 2 * i + 1) := f1.tr (Fr.new (S := non) (by omega)) (fun a h1 h2 => h2)
    have k2 : hOk Z (hnew X1 (.inr (4, pV m i)) 7) := k1.new
    have g2 : (hnew X1 (.inr (4, pV m i)) 7).1 X1.2.1 = some (.inr (4, pV m i)) := hnew_at
    have o2 : ∀ a, a ≠ X1.2.1 → (hnew X1 (.inr (4, pV m i)) 7).1 a = X1.1 a := fun a ha => hnew_ne ha
    have n2 : (hnew X1 (.inr (4, pV m i)) 7).2.1 = X1.2.1 + 1 := rfl
    have r2 : Rm Z (hnew X1 (.inr (4, pV m i)) 7) 1 := Rm.after (u := 1) (v := 1) r1 (Fr.new (S := non) (by omega))
    show ∃ st', (if isC 8 (hnew X1 (.inr (4, pV m i)) 7) V' = true then _ else _) = _ ∧ _
    rw [if_pos l2.isC]
    obtain ⟨r3, e3, e', p1, p2, p3, p4, p5⟩ := lst_add4 k2 r2 l2 (by omega) g2
    show ∃ st', ((t_J2_add_4 Z (hnew X1 (.inr (4, pV m i)) 7) V' X1.2.1).bind _) = _ ∧ _
    rw [e3, Option.bind_some]
    have hV' := k1.2.1 V' _ l1.1
    have he9 : z0 Z ≤ e9 → e9 < X1.2.1 := fun q => by
      rcases l1.2.2 with ⟨g, -⟩ | ⟨-, -, f, g, -⟩
      · have := k1.2.2.1; omega
      · exact k1.2.1 e9 _ g
    have i8' := cX1.2.2.2.2.2.2.2.2.2.2.2.2.2.2.2.2.2
    refine ⟨_, rfl, r3.2, Int32.ofNat i, e', va_up w9 i X1.2.1, mc9 + 1, rfl, p5, ?_, ?_, ?_⟩
    · exact (f2.tr p4 (fun a h1 h2 => by
        rcases h2 with h2 | ⟨h2, h3⟩
        · have := cX1.2.2.2.2.2.2.2.2.2.2.2.2.2.1.1; omega
        · have := (cX1.2.2.2.2.2.2.2.2.2.2.2.2.2.2.2.1 h3).1; omega)).up (by omega)
    · rw [p4.1 it (by rw [n2]; rw [n1]; omega) (fun q => ?_), o2 it (by rw [n1]; omega), a1]
      rcases q with q | ⟨q, q9⟩
      · exact ent_ne a1 l1.1 (fun q => by cases q) q
      · exact l1.row_ne k1 q9 a1 (fun f9 z9 => by cases z9) q.symm
    · refine cX1.addV (a := X1.2.1) p2 ?_ (by rw [← n1]; exact Nat.le_refl _) ?_ (fun x q1 q2 q3 q4 => ?_) ?_ (by omega) rfl (fun x q1 q2 => ?_) ?_ (Nat.le_refl _) k1
      · rw [p4.1 X1.2.1 (by rw [n2]; omega) (fun q => ?_), g2]
        · congr 2
          exact congrArg _ (pV_congr (fun x q1 q2 => (mAt_hi (by omega)))).symm
        · rcases q with q | ⟨q, q9⟩
          · omega
          · have := he9 q9; omega
      · have := p4.2.1; rw [n2] at this; omega
      · rw [p4.1 x (by rw [n2]; omega) (fun q => by rcases q with q | q; exact q3 q; exact q4 q), o2 x (by rw [n1]; omega)]
      · rcases p3 with p3 | p3
        · exact Or.inl p3
        · refine Or.inr ⟨by rw [p3, n2, n1]; omega, ?_⟩
          rcases p2.2.2 with ⟨-, g⟩ | ⟨-, -, f, g, -⟩
          · omega
          · exact p5.2.1 e' _ g
      · unfold mAt
        simp only [q1, if_false]
      · have := p4.2.1; rw [n2] at this; rw [← n1]; omega
  · rintro st ⟨X, lr, e9, w9, mc9, rfl, kX, fX, hX, cX⟩
    have hnv := c4.2.2.2
    unfold t_X2_copy_b68
    dsimp only
    rw [if_pos (isC_of hX), it_has hX (lV fX).1 (by omega) (by omega), Option.bind_some, if_pos rfl]
    dsimp only
    rw [if_pos rfl]
    obtain ⟨r, e1, p⟩ := co_l102 kh c kX fX cX
    rw [e1]
    obtain ⟨p1, p2, p3, p4⟩ := p
    exact ⟨_, rfl, p1, p2, p3.up (by omega), p4⟩
  · exact (fH.tr (Fr.new (S := non) (by omega)) (fun a h1 h2 => h2)).up (by omega)
  · rw [← hit]; exact hnew_at
  · exact cN.keep (fun a q1 q2 => hnew_ne (by omega)) (by rw [hnew_n]; omega) (Nat.le_refl _)
theorem co_copy0 (kh : hOk Z h) (c : coreR Z h lo hi o m L G V eG eV gs vs ng nv mG mV) (hv : ∀ j, j < nv → m (46 + 8 * j + 6) = 0 ∨ m (46 + 8 * j + 6) = 1) (rH : Rm Z h 24) : Ok (t_X2_copy Z h o) (cpPost Z h m 24) := by
  obtain ⟨c1, ⟨f0, c2, c3⟩, c4, c5, c6, c7, c8, -, -, -, i1, i2, i3, i4, i5, i6, i7, i8⟩ := id c
  have hz := kh.1
  have old : ∀ {X : aH} {u9 : Nat}, Fr non h X u9 → ∀ a, a < h.2.1 → X.1 a = h.1 a := fun f a ha => f.1 a ha (fun q => q)
  have lG : ∀ {X : aH} {u9 : Nat}, Fr non h X u9 → lstAt Z X G mG eG ng gs := fun f => c5.keep (old f G (by omega)) (fun q => old f eG (by have := i5 q; omega))
  unfold t_X2_copy
  rw [nw_of (rH.less (by omega)) (by omega), Option.bind_some]
  generalize hh1 : hnew h (.inr (1, [.null, .null, .null, .int 0, .int 0, .int 0, .int 0])) 7 = h1
  have k1 : hOk Z h1 := by rw [← hh1]; exact kh.new
  have f1 : Fr non h h1 1 := by rw [← hh1]; exact Fr.new (by omega)
  have n1 : h1.2.1 = h.2.1 + 1 := by rw [← hh1]; rfl
  have a1 : h1.1 h.2.1 = some (.inr (1, [.null, .null, .null, .int 0, .int 0, .int 0, .int 0])) := by rw [← hh1]; exact hnew_at
  rw [gA_of (k := 0) (x := L) (by rw [old f1 o (by omega)]; exact c1) rfl, Option.bind_some, clI_of (f := f0) (by rw [old f1 L (by omega)]; exact c2) (rH.after (u := 1) (v := 23) f1 |>.less (by omega)) (by omega), Option.bind_some]
  generalize hh2 : hnew h1 (.inl (zI Z, 24, .inl f0)) 24 = h2
  have k2 : hOk Z h2 := by rw [← hh2]; exact k1.new
  have f2 : Fr non h h2 2 := by rw [← hh2]; exact f1.tr (Fr.new (S := non) (by omega)) (fun a q1 q2 => q2)
  have n2 : h2.2.1 = h.2.1 + 2 := by rw [← hh2, hnew_n, n1]
  have a2 : h2.1 h.2.1 = some (.inr (1, [.null, .null, .null, .int 0, .int 0, .int 0, .int 0])) := by rw [← hh2, hnew_ne (by omega)]; exact a1
  have b2 : h2.1 h1.2.1 = some (.inl (zI Z, 24, .inl f0)) := by rw [← hh2]; exact hnew_at
  rw [if_pos (by simp [isI, b2])]
  obtain ⟨r3, e3, k3, f3, cN⟩ := co_init2 (m := m) k2 (rH.after (u := 2) (v := 22) f2 |>.less (by omega)) hz (by omega) a2 b2 c3
  rw [e3, Option.bind_some]
  have f3' : Fr non h r3.2 4 := f2.tr f3 (fun a q1 q2 => by omega)
  rw [gA_of (k := 1) (x := G) (by rw [old f3' o (by omega)]; exact c1) rfl, Option.bind_some, if_pos (lG f3').isC, it_new k3 (rH.after (u := 4) (v := 20) f3' |>.less (by omega)) (lG f3'), Option.bind_some]
  dsimp only
  generalize r3.2 = H at *
  have hit0 : h.2.1 ≤ H.2.1 := f3'.2.1
  generalize hit : H.2.1 = it at hit0 ⊢
  refine wlo_for ng (fun i st => ∃ X lr e9 w9 mc9, st = (o, h.2.1, it, X) ∧ hOk Z X ∧ Fr non h X (5 + 2 * i) ∧ X.1 it = some (itE (Int32.ofNat i) lr mG G) ∧ coreR Z X h.2.1 X.2.1 h.2.1 (mAt m i 0) h1.2.1 h2.2.1 (h2.2.1 + 1) e9 (znm Z 0) w9 (fun _ => 0) i 0 mc9 0) _ ?_ ?_ (i := 0) ⟨_, -1, znm Z 0, fun _ => 0, 0, rfl, k3.new, ?_, ?_, ?_⟩ (by omega) (by have := c4.2.2.1; omega)
  · rintro i st hi ⟨X, lr, e9, w9, mc9, rfl, kX, fX, hX, cX⟩
    refine Or.inl ?_
    have hnv := c4.2.2.1
    have lX := lG fX
    have hitl := kX.2.1 it _ hX
    unfold t_X2_copy_b26
    dsimp only
    rw [if_pos (isC_of hX), it_has hX lX.1 (by omega) (by omega), Option.bind_some, if_neg (show ¬ i = ng by omega)]
    dsimp only
    rw [if_neg (by decide), if_pos (isC_of hX), it_next lX hX hi (by omega), Option.bind_some]
    dsimp only
    have cX1 := cX.other (e' := itE (Int32.ofNat (i + 1)) (Int32.ofNat i) mG G) kX hX ⟨by decide, by decide, by decide, by decide⟩
    generalize hX1 : hset X it (itE (Int32.ofNat (i + 1)) (Int32.ofNat i) mG G) = X1 at cX1
    have k1 : hOk Z X1 := by rw [← hX1]; exact kX.set (by omega) hitl
    have n1 : X1.2 = X.2 := by rw [← hX1]; rfl
    have a1 : X1.1 it = some (itE (Int32.ofNat (i + 1)) (Int32.ofNat i) mG G) := by rw [← hX1]; exact hset_at
    have f1 : Fr non h X1 (5 + 2 * i) := by
      rw [← hX1]; exact (fX.tr (Fr.set (S := fun a => a = it) rfl) (fun a h1 h2 => by omega)).up (by omega)
    have hvo : X1.1 (gs i) = some (.inr (3, pG m i)) := by rw [old f1 _ (by have := (c7 i hi).2.2; omega)]; exact (c7 i hi).1
    have r1 : Rm Z X1 2 := by
      have := rH.less (v := 5 + 2 * i + 2) (by omega)
      exact Rm.after this f1
    rw [if_pos (isC_of hvo), gA_of (k := 1) cX1.1 rfl, Option.bind_some, if_pos (isC_of hvo), x5_copy k1 (r1.less (by omega)) hvo, Option.bind_some]
    dsimp only
    have l1 : lstAt Z X1 h2.2.1 mc9 e9 i w9 := cX1.2.2.2.1
    have l2 := l1.new k1 (x := .inr (3, pG m i)) (c := 4)
    have f2 : Fr non h (hnew X1 (.inr (3, pG m i)) 4) (5 + 2 * i + 1) := f1.tr (Fr.new (S := non) (by omega)) (fun a h1 h2 => h2)
    have k2 : hOk Z (hnew X1 (.inr (3, pG m i)) 4) := k1.new
    have g2 : (hnew X1 (.inr (3, pG m i)) 4).1 X1.2.1 = some (.inr (3, pG m i)) := hnew_at
    have o2 : ∀ a, a ≠ X1.2.1 → (hnew X1 (.inr (3, pG m i)) 4).1 a = X1.1 a := fun a ha => hnew_ne ha
    have n2 : (hnew X1 (.inr (3, pG m i)) 4).2.1 = X1.2.1 + 1 := rfl
    have r2 : Rm Z (hnew X1 (.inr (3, pG m i)) 4) 1 := Rm.after (u := 1) (v := 1) r1 (Fr.new (S := non) (by omega))
    show ∃ st', (if isC 8 (hnew X1 (.inr (3, pG m i)) 4) h2.2.1 = true then _ else _) = _ ∧ _
    rw [if_pos l2.isC]
    obtain ⟨r3, e3, e', p1, p2, p3, p4, p5⟩ := lst_add3 k2 r2 l2 (by omega) g2
    show ∃ st', ((t_J2_add_3 Z (hnew X1 (.inr (3, pG m i)) 4) h2.2.1 X1.2.1).bind _) = _ ∧ _
    rw [e3, Option.bind_some]
    have hG' := k1.2.1 h2.2.1 _ l1.1
    have he9 : z0 Z ≤ e9 → e9 < X1.2.1 := fun q => by
      rcases l1.2.2 with ⟨g, -⟩ | ⟨-, -, f, g, -⟩
      · have := k1.2.2.1; omega
      · exact k1.2.1 e9 _ g
    have i8' := cX1.2.2.2.2.2.2.2.2.2.2.2.2.2.2.2.2.2
    refine ⟨_, rfl, r3.2, Int32.ofNat i, e', va_up w9 i X1.2.1, mc9 + 1, rfl, p5, ?_, ?_, ?_⟩
    · exact (f2.tr p4 (fun a h1 h2 => by
        rcases h2 with h2 | ⟨h2, h3⟩
        · have := cX1.2.2.2.2.2.2.2.2.2.2.2.2.1.1; omega
        · have := (cX1.2.2.2.2.2.2.2.2.2.2.2.2.2.2.1 h3).1; omega)).up (by omega)
    · rw [p4.1 it (by rw [n2]; rw [n1]; omega) (fun q => ?_), o2 it (by rw [n1]; omega), a1]
      rcases q with q | ⟨q, q9⟩
      · exact ent_ne a1 l1.1 (fun q => by cases q) q
      · exact l1.row_ne k1 q9 a1 (fun f9 z9 => by cases z9) q.symm
    · refine cX1.addG (a := X1.2.1) p2 ?_ (by rw [← n1]; exact Nat.le_refl _) ?_ (fun x q1 q2 q3 q4 => ?_) ?_ (by omega) rfl (fun x q1 q2 => ?_) ?_ (Nat.le_refl _) k1
      · rw [p4.1 X1.2.1 (by rw [n2]; omega) (fun q => ?_), g2]
        · congr 2
          exact congrArg _ (pG_congr (fun x q1 q2 => (mAt_hi (by omega)))).symm
        · rcases q with q | ⟨q, q9⟩
          · omega
          · have := he9 q9; omega
      · have := p4.2.1; rw [n2] at this; omega
      · rw [p4.1 x (by rw [n2]; omega) (fun q => by rcases q with q | q; exact q3 q; exact q4 q), o2 x (by rw [n1]; omega)]
      · rcases p3 with p3 | p3
        · exact Or.inl p3
        · refine Or.inr ⟨by rw [p3, n2, n1]; omega, ?_⟩
          rcases p2.2.2 with ⟨-, g⟩ | ⟨-, -, f, g, -⟩
          · omega
          · exact p5.2.1 e' _ g
      · unfold mAt
        simp only [q1, if_false]
      · have := p4.2.1; rw [n2] at this; rw [← n1]; omega
  · rintro st ⟨X, lr, e9, w9, mc9, rfl, kX, fX, hX, cX⟩
    have hnv := c4.2.2.1
    unfold t_X2_copy_b26
    dsimp only
    rw [if_pos (isC_of hX), it_has hX (lG fX).1 (by omega) (by omega), Option.bind_some, if_pos rfl]
    dsimp only
    rw [if_pos rfl]
    obtain ⟨r, e1, p⟩ := co_l60 kh c hv kX (u := 13) (fX.up (by omega)) rH cX
    rw [e1]
    exact ⟨_, rfl, p⟩
  · exact (f3'.tr (Fr.new (S := non) (by omega)) (fun a q1 q2 => q2)).up (by omega)
  · rw [← hit]; exact hnew_at
  · exact cN.keep (fun a q1 q2 => hnew_ne (by omega)) (by rw [hnew_n]; omega) (Nat.le_refl _)
theorem co_copy (kh : hOk Z h) (c : coreIn Z h lo hi o m) (hv : ∀ j, j < 5 → m (46 + 8 * j + 6) = 0 ∨ m (46 + 8 * j + 6) = 1) (rH : Rm Z h 24) : Ok (t_X2_copy Z h o) (cpPost Z h m 24) := by
  obtain ⟨L, G, V, eG, eV, gs, vs, ng, nv, mG, mV, c⟩ := c
  exact co_copy0 kh c (fun j hj => hv j (by have := c.2.2.1.2.2.2; omega)) rH
end cp
