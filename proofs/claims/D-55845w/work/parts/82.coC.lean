/-! the core's changes, 3: minotaur, summer -/
set_option maxRecDepth 100000
theorem mfix {m : Nat → Int32} {c : Int32} : ∀ i x, (x < 46 ∨ 46 + 8 * i ≤ x) → (foldN (mstep c) i (0, va_up m 2 c)).2 x = va_up m 2 c x := by
  intro i
  induction i with
  | zero => intro x _; rfl
  | succ i ih =>
    intro x hx
    show (mstep c i _).2 x = _
    unfold mstep
    split
    · dsimp only
      split
      · rw [vu_ne (by omega)]; exact ih x (by omega)
      · exact ih x (by omega)
    · exact ih x (by omega)
section ops
variable {Z : aZ} {h : aH} {lo o : Nat} {m : Nat → Int32} {L G V eG eV : Nat} {gs vs : Nat → Nat} {ng nv : Nat} {mG mV : Int32}
theorem co_mino {B : Nat} {c : Int32} (k : hOk Z h) (r : Rm Z h 4) (cc : coreIn Z h lo h.2.1 o m) (w : wfm B m) : Ok (t_X2_minotaur Z h o c) (coOk Z lo o h 4 (sp_minotaur m c)) := by
  obtain ⟨L, G, V, eG, eV, gs, vs, ng, nv, mG, mV, cc⟩ := cc
  obtain ⟨ng', nv', w⟩ := w
  have f0 : Fr (fun a => lo ≤ a) h h 0 := Fr.rf
  have hnv := cc.2.2.1.2.2.2
  have hz0 := (cc.2.2.2.2.2.2.2.2.2.2.2.2.2.2.2.2).1
  have hoi := cc.2.2.2.2.2.2.2.2.2.2.1
  have hnn : nv = nv' := (iEq (by omega) (by have := w.2.2.2.1; omega)).mp (cc.2.2.1.2.1.symm.trans w.2.1)
  unfold t_X2_minotaur sp_minotaur t_X2_minotaur_l23
  rw [co_isIn, Option.bind_some, range_b k (r.less (by omega))]
  by_cases h1 : inR c (-1) 15 = false
  · rw [if_pos h1, if_pos h1, Option.bind_some]
    exact Ok.ret (coOk_ref k f0 (by omega))
  · rw [if_neg h1, if_neg h1, Option.bind_some]
    dsimp only
    rw [gI_of (k := 3) cc.1 rfl, Option.bind_some]
    by_cases h2 : m 2 = c
    · rw [if_pos h2, if_pos h2, refuse_yes k (r.less (by omega)), Option.bind_some]
      exact Ok.ret (coOk_ref k f0 (by omega))
    · rw [if_neg h2, if_neg h2, refuse_no, Option.bind_some]
      dsimp only
      rw [pF_of cc.1 (Nat.le_of_ble_eq_true rfl) (by omega), Option.bind_some]
      have hent : (.inr (1, [Value.ref L, .ref G, .ref V, .int (m 2), .int (m 3), .int (m 4), .int (m 5)].set 3 (.int c)) : va_E) = cO (va_up m 2 c) L G V := by
        unfold cO
        simp (disch := omega) only [vu_ne, vu_eq]
        rfl
      rw [hent]
      have hol := k.2.1 o _ cc.1
      have c1 := cc.fld k (m' := va_up m 2 c) (fun i hi => vu_ne (by omega))
      have k1 : hOk Z (hset h o (cO (va_up m 2 c) L G V)) := k.set (by omega) hol
      have f1 : Fr (fun a => lo ≤ a) h (hset h o (cO (va_up m 2 c) L G V)) 0 := Fr.set hoi.1
      generalize hset h o (cO (va_up m 2 c) L G V) = h1 at *
      have n1 : h1.2.1 = h.2.1 := by have := f1.2.1; have := f1.2.2.1; omega
      have c1' : coreR Z h1 lo h1.2.1 o (va_up m 2 c) L G V eG eV gs vs ng nv mG mV := by rw [n1]; exact c1
      rw [gA_of (k := 2) c1.1 rfl, Option.bind_some, if_pos c1.2.2.2.2.1.isC, it_new k1 (Rm.after (u := 0) (v := 4) r f1 |>.less (by omega)) c1.2.2.2.2.1, Option.bind_some]
      dsimp only
      have hcn : cN (m 1) = nv := by rw [cc.2.2.1.2.1, cN_of (by omega)]
      rw [hcn]
      generalize hit : h1.2.1 = it
      refine Ok.imp (P := fun r => hOk Z r.2 ∧ Fr (fun a => lo ≤ a) h r.2 1 ∧ r.1 = .inl (foldN (mstep c) nv (0, va_up m 2 c)).1 ∧ coreIn Z r.2 lo r.2.2.1 o (foldN (mstep c) nv (0, va_up m 2 c)).2) ?_ (fun r ⟨q1, q2, q3, q4⟩ => ⟨q1, q2.up (by omega), q3, q4⟩)
      refine wlo_for nv (fun i st => ∃ X lr, st = (c, (foldN (mstep c) i (0, va_up m 2 c)).1, it, X) ∧ hOk Z X ∧ Fr (fun a => lo ≤ a) h X 1 ∧ X.1 it = some (itE (Int32.ofNat i) lr mV V) ∧ coreR Z X lo X.2.1 o (foldN (mstep c) i (0, va_up m 2 c)).2 L G V eG eV gs vs ng nv mG mV) _ ?_ ?_ (i := 0) ⟨_, -1, rfl, k1.new, f1.tr (Fr.new (S := fun a => lo ≤ a) (by omega)) (fun a _ q => q), by rw [← hit]; exact hnew_at, c1'.keep (fun a q1 q2 => hnew_ne (by omega)) (by rw [hnew_n]; omega) (Nat.le_refl _)⟩ (by omega) (by omega)
      · rintro i st hi ⟨X, lr, rfl, kX, fX, hX, cX⟩
        refine Or.inl ?_
        have lX := cX.2.2.2.2.1
        have hitl := kX.2.1 it _ hX
        have hilo : lo ≤ it := by rw [← hit]; omega
        have wi := w.2.2.2.2.2.2.2.1 i (by omega)
        have hfx := fun x (q : x < 46 ∨ 46 + 8 * i ≤ x) => mfix (m := m) (c := c) i x q
        show ∃ st', _ = some (Sum.inl st') ∧ ∃ X lr, st' = (c, (mstep c i (foldN (mstep c) i (0, va_up m 2 c))).1, it, X) ∧ hOk Z X ∧ Fr (fun a => lo ≤ a) h X 1 ∧ X.1 it = some (itE (Int32.ofNat (i + 1)) lr mV V) ∧ coreR Z X lo X.2.1 o (mstep c i (foldN (mstep c) i (0, va_up m 2 c))).2 L G V eG eV gs vs ng nv mG mV
        generalize foldN (mstep c) i (0, va_up m 2 c) = q at *
        have v1 : q.2 (46 + 8 * i + 1) = m (46 + 8 * i + 1) := by rw [hfx _ (by omega), vu_ne (by omega)]
        have v4 : q.2 (46 + 8 * i + 4) = m (46 + 8 * i + 4) := by rw [hfx _ (by omega), vu_ne (by omega)]
        have v5 : q.2 (46 + 8 * i + 5) = m (46 + 8 * i + 5) := by rw [hfx _ (by omega), vu_ne (by omega)]
        have v6 : q.2 (46 + 8 * i + 6) = m (46 + 8 * i + 6) := by rw [hfx _ (by omega), vu_ne (by omega)]
        have v7 : q.2 (46 + 8 * i + 7) = m (46 + 8 * i + 7) := by rw [hfx _ (by omega), vu_ne (by omega)]
        unfold t_X2_minotaur_b43 t_X2_minotaur_l88
        dsimp only
        rw [if_pos (isC_of hX), it_has hX lX.1 (by omega) (by omega), Option.bind_some, if_neg (show ¬ i = nv by omega)]
        dsimp only
        rw [if_neg (by decide), if_pos (isC_of hX), it_next lX hX hi (by omega), Option.bind_some]
        dsimp only
        have cX1 := cX.other (e' := itE (Int32.ofNat (i + 1)) (Int32.ofNat i) mV V) kX hX ⟨by decide, by decide, by decide, by decide⟩
        have k1 : hOk Z (hset X it (itE (Int32.ofNat (i + 1)) (Int32.ofNat i) mV V)) := kX.set (by omega) hitl
        have a1 : (hset X it (itE (Int32.ofNat (i + 1)) (Int32.ofNat i) mV V)).1 it = some (itE (Int32.ofNat (i + 1)) (Int32.ofNat i) mV V) := hset_at
        have fX1 : Fr (fun a => lo ≤ a) h (hset X it (itE (Int32.ofNat (i + 1)) (Int32.ofNat i) mV V)) 1 := (fX.tr (Fr.set (S := fun a => lo ≤ a) hilo) (fun a _ q => q)).up (by omega)
        have nX1 : (hset X it (itE (Int32.ofNat (i + 1)) (Int32.ofNat i) mV V)).2.1 = X.2.1 := rfl
        generalize hset X it (itE (Int32.ofNat (i + 1)) (Int32.ofNat i) mV V) = X1 at *
        have hv := cX1.2.2.2.2.2.2.1 i hi
        rw [if_pos (isC_of hv.1), if_pos (isC_of hv.1), x6_isOut hv.1, Option.bind_some]
        dsimp only
        rw [b2i_if, v1]
        have cX1' : coreR Z X1 lo X1.2.1 o q.2 L G V eG eV gs vs ng nv mG mV := by rw [nX1]; exact cX1
        by_cases g1 : m (46 + 8 * i + 1) = 15
        · have hout := (out_iff wi).mp g1
          have hst : mstep c i q = q := by unfold mstep; rw [if_neg (fun z => by rw [v7, hout] at z; exact absurd z.1 (by decide))]
          rw [if_neg (by simp [g1]), hst]
          exact ⟨_, rfl, X1, Int32.ofNat i, rfl, k1, fX1, a1, cX1'⟩
        · have hout : m (46 + 8 * i + 7) = 0 := by
            have hno : ¬ m (46 + 8 * i + 7) = 1 := fun z => g1 ((out_iff wi).mpr z)
            obtain ⟨c9, hr, al, -, -, -, -, -, -, e7, -⟩ := wi
            rw [e7] at hno ⊢
            split at hno <;> simp_all
          rw [if_pos (by simp [g1]), gI_of (k := 2) hv.1 rfl, Option.bind_some, v1]
          by_cases g2 : m (46 + 8 * i + 1) = c
          · rw [if_pos g2, if_pos (isC_of hv.1)]
            have hst : mstep c i q = (q.1 + 1, if 0 < q.2 (46 + 8 * i + 5) then va_up q.2 (46 + 8 * i + 6) 1 else q.2) := by unfold mstep; rw [if_pos ⟨by rw [v7]; exact hout, by rw [v1]; exact g2⟩]
            unfold t_X6_meet
            rw [gI_of (k := 6) hv.1 rfl, Option.bind_some, if_pos (isC_of hv.1), x6_hasBond hv.1, Option.bind_some]
            dsimp only
            rw [v6, v4]
            have hvl := k1.2.1 _ _ hv.1
            have hvlo : z0 Z ≤ vs i := by have := hv.2.1; omega
            -- the mark's new value
            have key : ∃ y, m (46 + 8 * i + 6) ||| b2i (decide (¬ m (46 + 8 * i + 4) = -1)) = y ∧ (y = 0 ∨ y = 1) ∧ (if 0 < q.2 (46 + 8 * i + 5) then va_up q.2 (46 + 8 * i + 6) 1 else q.2) = va_up q.2 (46 + 8 * i + 6) y := by
              have same : va_up q.2 (46 + 8 * i + 6) (q.2 (46 + 8 * i + 6)) = q.2 := by
                funext x
                by_cases hx : x = 46 + 8 * i + 6
                · rw [hx, vu_eq]
                · rw [vu_ne hx]
              obtain ⟨c9, hr, al, -, -, -, -, -, -, -, ⟨e4, e5, e6⟩ | ⟨g, rt, r0, r1, r2, e4, e5, e6, -⟩⟩ := wi
              · refine ⟨0, by rw [e6, e4]; decide, Or.inl rfl, ?_⟩
                rw [v5, e5, if_neg (by decide)]
                rw [v6, e6] at same
                exact same.symm
              · refine ⟨1, ?_, Or.inr rfl, ?_⟩
                · rw [e4, decide_eq_true (iNeg (by have := w.2.2.1; omega))]
                  rcases e6 with e6 | e6 <;> rw [e6] <;> decide
                · rw [v5, e5, if_pos (show (0 : Int32) < Int32.ofNat rt from (iLt (a := 0) (by omega) (by omega)).mpr (by omega))]
            obtain ⟨y, y1, y2, y3⟩ := key
            rw [y1, if_pos y2, pF_of hv.1 (Nat.le_of_ble_eq_true rfl) hvlo, Option.bind_some, Option.bind_some, hst, y3]
            have hent : (.inr (4, (pV q.2 i).set 6 (.int y)) : va_E) = .inr (4, pV (va_up q.2 (46 + 8 * i + 6) y) i) := by
              unfold pV
              simp (disch := omega) only [vu_ne, vu_eq]
              rfl
            rw [hent]
            have cY := cX1'.vis k1 hi (m' := va_up q.2 (46 + 8 * i + 6) y) (fun x hx => vu_ne (by omega))
            refine ⟨_, rfl, _, Int32.ofNat i, rfl, k1.set hvlo hvl, (fX1.tr (Fr.set (S := fun a => lo ≤ a) hv.2.1) (fun a _ q => q)).up (by omega), ?_, cY⟩
            rw [hset_ne (ent_ne a1 hv.1 (fun q => by cases q))]; exact a1
          · have hst : mstep c i q = q := by unfold mstep; rw [if_neg (fun z => g2 (by rw [← v1]; exact z.2))]
            rw [if_neg g2, hst]
            exact ⟨_, rfl, X1, Int32.ofNat i, rfl, k1, fX1, a1, cX1'⟩
      · rintro st ⟨X, lr, rfl, kX, fX, hX, cX⟩
        unfold t_X2_minotaur_b43
        dsimp only
        rw [if_pos (isC_of hX), it_has hX cX.2.2.2.2.1.1 (by omega) (by omega), Option.bind_some, if_pos rfl]
        dsimp only
        rw [if_pos rfl]
        exact ⟨_, rfl, kX, fX, rfl, L, G, V, eG, eV, gs, vs, ng, nv, mG, mV, cX⟩
theorem co_gaps {hi : Nat} (c : coreR Z h lo hi o m L G V eG eV gs vs ng nv mG mV) : t_X2_gaps Z h o = some (gapsI m, h) := by
  obtain ⟨c1, ⟨f, c2, c3⟩, -⟩ := c
  unfold t_X2_gaps gapsI
  rw [gA_of (k := 0) c1 rfl, Option.bind_some, alen_I c2, Option.bind_some]
  refine Ok.eq ?_
  refine wlo_for 24 (fun i st => st = (foldN (fun k acc => acc + (if m (6 + k) < 5 then 1 else 0)) i 0, L, Int32.ofNat 24, Int32.ofNat i, h)) _ ?_ ?_ (i := 0) rfl (by omega) (by omega)
  · rintro i st hi ⟨⟩
    refine Or.inl ⟨_, ?_, rfl⟩
    unfold t_X2_gaps_b13 t_X2_gaps_l37
    dsimp only
    rw [if_neg (fun q => by have := (iLe (by omega) (by omega)).mp q; omega), ldI_of c2 hi (by omega), Option.bind_some, c3 i hi, iAdd1]
    by_cases q : m (6 + i) < 5
    · rw [if_neg (Int32.not_le.mpr q)]; simp only [foldN, if_pos q]
    · rw [if_pos (Int32.not_lt.mp q)]; simp only [foldN, if_neg q]
  · rintro st ⟨⟩
    exact ⟨_, rfl, rfl⟩
theorem co_summ (k : hOk Z h) (c : coreIn Z h lo h.2.1 o m) : Ok (t_X2_summer Z h o) (fun r => hOk Z r.2 ∧ Fr (fun a => lo ≤ a) h r.2 0 ∧ r.1 = gapsI m - gapsI (summ m) ∧ coreIn Z r.2 lo r.2.2.1 o (summ m)) := by
  obtain ⟨L, G, V, eG, eV, gs, vs, ng, nv, mG, mV, c⟩ := c
  unfold t_X2_summer
  rw [if_pos (isC_of c.1), co_gaps c, Option.bind_some]
  refine wlo_for 24 (fun i st => ∃ X w, st = (o, gapsI m, Int32.ofNat i, X) ∧ hOk Z X ∧ Fr (fun a => lo ≤ a) h X 0 ∧ coreR Z X lo X.2.1 o w L G V eG eV gs vs ng nv mG mV ∧ ∀ x, w x = if 6 ≤ x ∧ x < 6 + i then jmin 9 (m x + 1) else m x) _ ?_ ?_ (i := 0) ⟨h, m, rfl, k, Fr.rf, c, fun x => by rw [if_neg (by omega)]⟩ (by omega) (by omega)
  · rintro i st hi ⟨X, w, rfl, kX, fX, cX, hw⟩
    refine Or.inl ?_
    obtain ⟨f, c2, c3⟩ := cX.2.1
    have hLi := cX.2.2.2.2.2.2.2.2.2.2.2.1
    have hz0 := (cX.2.2.2.2.2.2.2.2.2.2.2.2.2.2.2.2).1
    have hLl := kX.2.1 L _ c2
    unfold t_X2_summer_b7
    dsimp only
    rw [if_neg (fun q => by have := (iLe (a := 24) (b := i) (by omega) (by omega)).mp q; omega), gA_of (k := 0) cX.1 rfl, Option.bind_some, Option.bind_some, ldI_of c2 hi (by omega), Option.bind_some, stI_of c2 hi (by omega) (by omega), Option.bind_some, c3 i hi]
    refine ⟨_, rfl, _, _, by rw [iAdd1], kX.set (by omega) hLl, (fX.tr (Fr.set (S := fun a => lo ≤ a) hLi.1) (fun a _ q => q)).up (by omega), cX.leaf kX c2 hi, fun x => ?_⟩
    by_cases hx : x = 6 + i
    · subst hx
      rw [vu_eq, hw, if_neg (by omega), if_pos (by omega)]
    · rw [vu_ne hx, hw]
      by_cases q : 6 ≤ x ∧ x < 6 + i
      · rw [if_pos q, if_pos (by omega)]
      · rw [if_neg q, if_neg (by omega)]
  · rintro st ⟨X, w, rfl, kX, fX, cX, hw⟩
    have hfin : va_up w 3 (w 3 + 1) = summ m := by
      funext x
      unfold summ
      by_cases hx : x = 3
      · subst hx
        rw [vu_eq, if_pos rfl, hw, if_neg (by omega)]
      · rw [vu_ne hx, hw, if_neg hx]
    have hoi := cX.2.2.2.2.2.2.2.2.2.2.1
    have hz0 := (cX.2.2.2.2.2.2.2.2.2.2.2.2.2.2.2.2).1
    have hol := kX.2.1 o _ cX.1
    unfold t_X2_summer_b7 t_X2_summer_l38
    dsimp only
    rw [if_pos (show (24 : Int32) ≤ Int32.ofNat 24 by decide), gI_of (k := 4) cX.1 rfl, Option.bind_some, pF_of cX.1 (Nat.le_of_ble_eq_true rfl) (by omega), Option.bind_some]
    have hent : (.inr (1, [Value.ref L, .ref G, .ref V, .int (w 2), .int (w 3), .int (w 4), .int (w 5)].set 4 (.int (w 3 + 1))) : va_E) = cO (summ m) L G V := by
      rw [← hfin]
      unfold cO
      simp (disch := omega) only [vu_ne, vu_eq]
      rfl
    rw [hent]
    have cY := cX.fld kX (m' := summ m) (fun i hi => by rw [← hfin, vu_ne (by omega)])
    have cY' : coreR Z (hset X o (cO (summ m) L G V)) lo (hset X o (cO (summ m) L G V)).2.1 o (summ m) L G V eG eV gs vs ng nv mG mV := cY
    rw [if_pos (isC_of cY.1), co_gaps cY, Option.bind_some]
    exact ⟨_, rfl, kX.set (by omega) hol, (fX.tr (Fr.set (S := fun a => lo ≤ a) hoi.1) (fun a _ q => q)).up (by omega), rfl, L, G, V, eG, eV, gs, vs, ng, nv, mG, mV, cY'⟩
end ops
