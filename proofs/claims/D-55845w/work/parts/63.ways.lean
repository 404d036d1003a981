/-! the twin lays its ways -/
set_option maxRecDepth 100000
theorem tw_l122 {s : tS} {W : Nat → Int32} {F : Nat → Nat} {v cell by9 : Nat} {v2 v3 v5 : Int32} (hW : rW W F) (hv : v < 16) (hc : cell < 16) (hF : F v ≤ 99) (hF2 : F cell ≤ 99) (hb : by9 ≤ 99) : t_X3_laysWays_l122 (sW s W) v2 v3 (Int32.ofNat cell) v5 (Int32.ofNat v) (Int32.ofNat by9) = some (.inl (v2, v3, Int32.ofNat cell, v5 + 1, sW s (va_up W v (Int32.ofNat (min (F v) (F cell + by9)))))) := by
  unfold t_X3_laysWays_l122
  rw [if_neg (iNeg (by omega)), tld_W hv, Option.bind_some, tld_W hc, Option.bind_some]
  have e : jmin (W v) (W cell + Int32.ofNat by9) = Int32.ofNat (min (F v) (F cell + by9)) := by
    rw [hW v hv, hW cell hc, iAdd, jmin_of (by omega) (by omega)]
  rw [e, tst_W hv, Option.bind_some]
  rfl
theorem tw_l92 {s : tS} {t g : Bool} {v3 v4 v5 v6 : Int32} : t_X3_laysWays_l92 s (b2i t) v3 v4 v5 v6 (b2i g) = t_X3_laysWays_l122 s (b2i t) v3 v4 v5 v6 (Int32.ofNat (wby t g)) := by
  cases t <;> cases g <;> rfl
theorem tw_dirs {t : Bool} {m : Nat → Int32} {a : Nat} {F0 F : Nat → Nat} {W : Nat → Int32} {cell : Nat} {s : tS} {rd : Int32} (hc : cell < 16) (hm : s.2 0 = m) (hW : rW W F) (h : lInv t m a F0 cell 0 F) : Ok (wlo t_X3_laysWays_b52 300 (b2i t, rd, Int32.ofNat cell, 0, sW s W)) (fun r => ∃ F' W', r = .inl (b2i t, rd, Int32.ofNat (cell + 1), sW s W') ∧ rW W' F' ∧ lInv t m a F0 (cell + 1) 0 F') := by
  refine wlo_for 4 (fun i st => ∃ F' W', st = (b2i t, rd, Int32.ofNat cell, Int32.ofNat i, sW s W') ∧ rW W' F' ∧ lInv t m a F0 cell i F') _ ?_ ?_ (i := 0) ⟨F, W, rfl, hW, h⟩ (by omega) (by omega)
  · rintro i st hi ⟨F', W', rfl, hW', hinv⟩
    refine Or.inl ?_
    unfold t_X3_laysWays_b52
    dsimp only
    rw [if_neg (fun q => by have := (iLe (a := 4) (b := i) (by omega) (by omega)).mp q; omega), (enc_nb cell hc i hi).2, Option.bind_some]
    by_cases hn : nbN cell i = 99
    · rw [hn, enc99, if_pos rfl]
      refine ⟨_, ?_, F', W', rfl, hW', hinv.skip hn⟩
      unfold t_X3_laysWays_l91
      rw [show (0 : Int32) = b2i false from rfl, tw_l92]
      unfold t_X3_laysWays_l122
      rw [if_pos rfl, ← iAdd1]
      rfl
    · obtain ⟨g1, g2, -⟩ : nbN cell i < 16 ∧ hgN cell (nbN cell i) < 24 ∧ _ := by rcases nb_lt cell hc i hi with q | q; exact absurd q hn; exact q
      have h9 := hinv.step hc hi hn
      rw [enc_of hn, if_neg (iNeg (by omega)), (enc_hg cell hc _ g1).2, Option.bind_some, tw_isGapAt hc g1, Option.bind_some]
      have hm' : (sW s W').2 0 = m := by rw [sW_ne s _ (by decide), hm]
      rw [hm']
      refine ⟨_, ?_, _, _, rfl, hW'.up _ _, h9⟩
      dsimp only
      have e1 : ∀ b : Bool, (if (if b = true then (1 : Int32) else 0) = 0 then t_X3_laysWays_l91 (sW s W') (b2i t) rd (Int32.ofNat cell) (Int32.ofNat i) (Int32.ofNat (nbN cell i)) else t_X3_laysWays_l92 (sW s W') (b2i t) rd (Int32.ofNat cell) (Int32.ofNat i) (Int32.ofNat (nbN cell i)) 1) = t_X3_laysWays_l122 (sW s W') (b2i t) rd (Int32.ofNat cell) (Int32.ofNat i) (Int32.ofNat (nbN cell i)) (Int32.ofNat (wby t b)) := by
        intro b
        cases b
        · exact tw_l92 (g := false)
        · exact tw_l92 (g := true)
      have hw : wby t (gp m cell (nbN cell i)) ≤ 99 := by unfold wby; cases t <;> cases gp m cell (nbN cell i) <;> decide
      rw [e1, tw_l122 hW' g1 hc (hinv.1 _ g1) (hinv.1 _ hc) hw, ← iAdd1]
  · rintro st ⟨F', W', rfl, hW', hinv⟩
    refine ⟨_, ?_, F', W', rfl, hW', hinv.cell⟩
    unfold t_X3_laysWays_b52
    dsimp only
    rw [if_pos (show (4 : Int32) ≤ Int32.ofNat 4 by decide), iAdd1]
theorem tw_round {t : Bool} {m : Nat → Int32} {a : Nat} {F : Nat → Nat} {W : Nat → Int32} {s : tS} {rd : Int32} (hm : s.2 0 = m) (hW : rW W F) (h : lInv t m a F 0 0 F) : Ok (wlo t_X3_laysWays_b42 300 (b2i t, rd, 0, sW s W)) (fun r => ∃ F' W', r = .inl (b2i t, rd + 1, sW s W') ∧ rW W' F' ∧ lInv t m a F 16 0 F') := by
  refine wlo_for 16 (fun i st => ∃ F' W', st = (b2i t, rd, Int32.ofNat i, sW s W') ∧ rW W' F' ∧ lInv t m a F i 0 F') _ ?_ ?_ (i := 0) ⟨F, W, rfl, hW, h⟩ (by omega) (by omega)
  · rintro i st hi ⟨F', W', rfl, hW', hinv⟩
    refine Or.inl ?_
    unfold t_X3_laysWays_b42
    dsimp only
    rw [if_neg (fun q => by have := (iLe (a := 16) (b := i) (by omega) (by omega)).mp q; omega)]
    obtain ⟨r, e1, F2, W2, rfl, h2, h3⟩ := tw_dirs (rd := rd) hi hm hW' hinv
    exact ⟨_, e1, F2, W2, rfl, h2, h3⟩
  · rintro st ⟨F', W', rfl, hW', hinv⟩
    refine ⟨_, ?_, F', W', rfl, hW', hinv⟩
    unfold t_X3_laysWays_b42
    dsimp only
    rw [if_pos (show (16 : Int32) ≤ Int32.ofNat 16 by decide)]
/-- after r rounds: no walk of at most r steps is cheaper -/
def lRnd (t : Bool) (m : Nat → Int32) (a r : Nat) (F : Nat → Nat) : Prop := lInv t m a F 0 0 F ∧ ∀ k v c, k ≤ r → v < 16 → wk (eE t m) a k v c → F v ≤ c
theorem tw_rounds {t : Bool} {m : Nat → Int32} {a : Nat} {F : Nat → Nat} {W : Nat → Int32} {s : tS} (hm : s.2 0 = m) (hW : rW W F) (h : lRnd t m a 0 F) : Ok (wlo t_X3_laysWays_b33 300 (b2i t, 0, sW s W)) (fun r => ∃ F' W', r = ((), sW s W') ∧ rW W' F' ∧ lRnd t m a 16 F') := by
  refine wlo_for 16 (fun i st => ∃ F' W', st = (b2i t, Int32.ofNat i, sW s W') ∧ rW W' F' ∧ lRnd t m a i F') _ ?_ ?_ (i := 0) ⟨F, W, rfl, hW, h⟩ (by omega) (by omega)
  · rintro i st hi ⟨F', W', rfl, hW', hinv⟩
    refine Or.inl ?_
    unfold t_X3_laysWays_b33
    dsimp only
    rw [if_neg (fun q => by have := (iLe (a := 16) (b := i) (by omega) (by omega)).mp q; omega)]
    obtain ⟨r, e1, F2, W2, rfl, hW2, h1, h2, h3, h4, h5⟩ := tw_round (rd := Int32.ofNat i) hm hW' hinv.1
    refine ⟨_, e1, F2, W2, by rw [iAdd1], hW2, ⟨h1, h2, h3, fun v _ => Nat.le_refl _, fun u v w he hor => ?_⟩, fun k v c hk hv hw => ?_⟩
    · rcases hor with q | ⟨-, d, q, -⟩
      · omega
      · omega
    · cases k with
      | zero =>
        obtain ⟨rfl, rfl⟩ := hw
        omega
      | succ k =>
        obtain ⟨u, w, c', g1, g2, rfl⟩ := hw
        have q1 := h5 u v w g2 (Or.inl (eE_ok _ _ _ g2).1)
        have q2 := hinv.2 k u c' (by omega) (eE_ok _ _ _ g2).1 g1
        omega
  · rintro st ⟨F', W', rfl, hW', hinv⟩
    refine ⟨_, ?_, F', W', rfl, hW', hinv⟩
    unfold t_X3_laysWays_b33
    dsimp only
    rw [if_pos (show (16 : Int32) ≤ Int32.ofNat 16 by decide)]
theorem tw_lays {t : Bool} {a : Nat} {s : tS} (ha : a < 16) : Ok (t_X3_laysWays s (Int32.ofNat a) (b2i t)) (fun r => ∃ F W, r = ((), sW s W) ∧ rW W F ∧ isMin (eE t (s.2 0)) a 99 F ∧ ∀ v, v < 16 → F v ≤ 99) := by
  unfold t_X3_laysWays
  refine Ok.imp (P := fun r => ∃ F W, r = ((), sW s W) ∧ rW W F ∧ lRnd t (s.2 0) a 16 F) ?_ ?_
  · refine wlo_for 16 (fun i st => ∃ W, st = (Int32.ofNat a, b2i t, Int32.ofNat i, sW s W) ∧ ∀ j, j < i → W j = Int32.ofNat (if j = a then 0 else 99)) _ ?_ ?_ (i := 0) ⟨s.2 13, by rw [sW_same]; rfl, fun j hj => by omega⟩ (by omega) (by omega)
    · rintro i st hi ⟨W, rfl, hW⟩
      refine Or.inl ?_
      unfold t_X3_laysWays_b2
      dsimp only
      rw [if_neg (fun q => by have := (iLe (a := 16) (b := i) (by omega) (by omega)).mp q; omega)]
      by_cases e : i = a
      · rw [if_pos (by rw [e])]
        unfold t_X3_laysWays_l24
        rw [tst_W hi, Option.bind_some]
        refine ⟨_, rfl, _, by rw [iAdd1], fun j hj => ?_⟩
        by_cases q : j = i
        · subst q; simp [va_up, e]
        · simp only [va_up, q, if_false]; exact hW j (by omega)
      · rw [if_neg (fun q => e ((iEq (by omega) (by omega)).mp q))]
        unfold t_X3_laysWays_l24
        rw [tst_W hi, Option.bind_some]
        refine ⟨_, rfl, _, by rw [iAdd1], fun j hj => ?_⟩
        by_cases q : j = i
        · subst q; simp [va_up, e]
        · simp only [va_up, q, if_false]; exact hW j (by omega)
    · rintro st ⟨W, rfl, hW⟩
      unfold t_X3_laysWays_b2
      dsimp only
      rw [if_pos (show (16 : Int32) ≤ Int32.ofNat 16 by decide)]
      unfold t_X3_laysWays_l31
      have h0 : lInv t (s.2 0) a (fun j => if j = a then 0 else 99) 0 0 (fun j => if j = a then 0 else 99) := by
        refine ⟨fun v _ => by dsimp only; split <;> omega, by simp, fun v _ hlt => ?_, fun v _ => Nat.le_refl _, fun u v w he hor => ?_⟩
        · dsimp only at hlt ⊢
          split at hlt
          · rename_i q; rw [if_pos q, q]; exact ⟨0, rfl, rfl⟩
          · omega
        · rcases hor with q | ⟨-, d, q, -⟩ <;> omega
      obtain ⟨r, e1, F', W', rfl, h1, h2⟩ := tw_rounds (s := s) rfl hW ⟨h0, fun k v c hk hv hw => by
        have hk : k = 0 := by omega
        subst hk
        obtain ⟨rfl, rfl⟩ := hw
        simp⟩
      exact ⟨_, by rw [e1]; rfl, F', W', rfl, h1, h2⟩
  · rintro r ⟨F, W, rfl, hW, h⟩
    refine ⟨F, W, rfl, hW, ⟨h.1.2.2.1, fun v hv c ⟨k, hk⟩ => ?_⟩, h.1.1⟩
    obtain ⟨k', c', q1, q2, q3⟩ := wk_short ha (fun u v w e => (eE_ok u v w e).2.1) k v c hk
    have := h.2 k' v c' (by omega) hv q3
    omega
